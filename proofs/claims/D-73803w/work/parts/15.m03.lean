noncomputable def lfX1_becomes (K : Nat) : Nat → (Int32 → Int32 → Int32 → pM → Option pM) × (Int32 → Int32 → Int32 → pM → Option pM) := Nat.rec (motive := fun _ => (Int32 → Int32 → Int32 → pM → Option pM) × (Int32 → Int32 → Int32 → pM → Option pM)) ((fun _ _ _ _ => none), (fun _ _ _ _ => none)) (fun _ G => ((fun v1 v2 v3 σ => if ¬ (v2 < 0 ∨ 116 ≤ Int32.toNatClampNeg v2) then (dz_l (σ.2.2.1 12 (Int32.toNatClampNeg v2)) fun x2 => if x2 ≤ v3 then (G.2 v1 v2 0 σ) else (dz_l ((9 * v2) + v3) fun x3 => if ¬ (x3 < 0 ∨ 1044 ≤ Int32.toNatClampNeg x3) then (dz_l (σ.2.2.1 14 (Int32.toNatClampNeg x3)) fun x5 => dz_l ((9 * v2) + v3) fun x6 => if ¬ (x6 < 0 ∨ 1044 ≤ Int32.toNatClampNeg x6) then (dz_l (σ.2.2.1 15 (Int32.toNatClampNeg x6)) fun x8 => dz_l ((9 * v2) + v3) fun x9 => if ¬ (x9 < 0 ∨ 1044 ≤ Int32.toNatClampNeg x9) then (dz_l (σ.2.2.1 16 (Int32.toNatClampNeg x9)) fun x11 => dz_b (fnX1_addsDown K v1 x5 x8 x11 σ) fun s13 => dz_l (v3 + 1) fun x14 => G.1 v1 v2 x14 s13) else none) else none) else none)) else none), (fun v1 v2 v3 σ => if ¬ (v2 < 0 ∨ 116 ≤ Int32.toNatClampNeg v2) then (dz_l (σ.2.2.1 13 (Int32.toNatClampNeg v2)) fun x2 => if x2 ≤ v3 then (some σ) else (dz_l ((9 * v2) + v3) fun x3 => if ¬ (x3 < 0 ∨ 1044 ≤ Int32.toNatClampNeg x3) then (dz_l (σ.2.2.1 17 (Int32.toNatClampNeg x3)) fun x5 => dz_l ((9 * v2) + v3) fun x6 => if ¬ (x6 < 0 ∨ 1044 ≤ Int32.toNatClampNeg x6) then (dz_l (σ.2.2.1 18 (Int32.toNatClampNeg x6)) fun x8 => dz_b (fnX1_addsUp K v1 x5 x8 σ) fun s10 => dz_l (v3 + 1) fun x11 => G.2 v1 v2 x11 s10) else none) else none)) else none)))
noncomputable def fnX1_becomes (K : Nat) (a0 : Int32) (a1 : Int32) (σ : pM) : Option pM := if ¬ (a1 < 0 ∨ 116 ≤ Int32.toNatClampNeg a1) then (dz_l (σ.2.2.1 8 (Int32.toNatClampNeg a1)) fun x2 => if ¬ (a1 < 0 ∨ 116 ≤ Int32.toNatClampNeg a1) then (dz_l (σ.2.2.1 9 (Int32.toNatClampNeg a1)) fun x4 => dz_b (fnX1_begins K a0 x2 x4 σ) fun s6 => if ¬ (a1 < 0 ∨ 116 ≤ Int32.toNatClampNeg a1) then (dz_l (s6.2.2.1 10 (Int32.toNatClampNeg a1)) fun x8 => if ¬ (a0 < 0 ∨ 116 ≤ Int32.toNatClampNeg a0) then (dz_l (mI s6 10 (Int32.toNatClampNeg a0) x8) fun s10 => if ¬ (a1 < 0 ∨ 116 ≤ Int32.toNatClampNeg a1) then (dz_l (s10.2.2.1 11 (Int32.toNatClampNeg a1)) fun x12 => if ¬ (a0 < 0 ∨ 116 ≤ Int32.toNatClampNeg a0) then (dz_l (mI s10 11 (Int32.toNatClampNeg a0) x12) fun s14 => (lfX1_becomes K K).1 a0 a1 0 s14) else none) else none) else none) else none) else none) else none
set_option maxHeartbeats 4000000 in
set_option maxRecDepth 100000 in
theorem wlX1_becomes {p : Program} {l : Launch} {e : Env} {s : State} {m : MethodId} {below : List Frame} {meth : Method} {c : Code} {D : va_G} {cl : List vw_C} {ci : Nat} (hci : cl[ci]? = some (RX1, TX1, 35)) {h : Nat} {ad : Nat → Nat} {cA : Nat → ClassId} {A : Nat → Prop} (hA : ∀ q : Nat, s.heap.size ≤ q → A q) (hK : va_K D cl (mtys cA) s) (K : Nat) (res : pM) (a0 : Int32) (a1 : Int32) (hx : p.tables.exec = Jvm.exec) (hb : c.code = cX1_becomes) (hr : meth.sig.returnType = none) (hlocks : meth.locks = false) (hml : c.maxLocals = 4) (hown : s.vm.findClass RX1 = some m.cls) (hts : ∀ w ∈ lw_all, w.before ([.ref h, .int a0, .int a1] : List Value).toArray s = true) : ∀ k : Nat, (∀ (v1 : Int32) (v2 : Int32) (v3 : Int32) (σ : pM) (H : Heap) (locs : List Loc), va_P D cl (mw ci h ad cA σ) H → va_D A (mw ci h ad cA σ) → va_S A s.heap H locs → ∀ (ls : Array Slot), lv_has ls 4 [(0, .ref h), (1, .int v1), (2, .int v2), (3, .int v3)] → (lfX1_becomes K k).1 v1 v2 v3 σ = some res → W p l e (headSpec (ws_ yX1_becomes cX1_becomes 4 (none)) ({ frames := 1, cells := 0, slots := 0, locals := 25 })).room s m ([.ref h, .int a0, .int a1] : List Value).toArray below meth c H locs 0 0 (MQ below (mQv D cl ci h ad cA A res) ([.ref h, .int a0, .int a1] : List Value).toArray s 0 0 A) (F0 m 43 ls [])) ∧ (∀ (v1 : Int32) (v2 : Int32) (v3 : Int32) (σ : pM) (H : Heap) (locs : List Loc), va_P D cl (mw ci h ad cA σ) H → va_D A (mw ci h ad cA σ) → va_S A s.heap H locs → ∀ (ls : Array Slot), lv_has ls 4 [(0, .ref h), (1, .int v1), (2, .int v2), (3, .int v3)] → (lfX1_becomes K k).2 v1 v2 v3 σ = some res → W p l e (headSpec (ws_ yX1_becomes cX1_becomes 4 (none)) ({ frames := 1, cells := 0, slots := 0, locals := 25 })).room s m ([.ref h, .int a0, .int a1] : List Value).toArray below meth c H locs 0 0 (MQ below (mQv D cl ci h ad cA A res) ([.ref h, .int a0, .int a1] : List Value).toArray s 0 0 A) (F0 m 99 ls [])) := by
  intro k
  induction k with
  | zero =>
    exact ⟨fun _ _ _ _ _ _ _ _ _ _ _ hf => (by cases hf), fun _ _ _ _ _ _ _ _ _ _ _ hf => (by cases hf)⟩
  | succ k ih =>
    refine ⟨?_, ?_⟩
    · intro v1 v2 v3 σ H locs hP hD hS ls hl hf
      have hf : (if ¬ (v2 < 0 ∨ 116 ≤ Int32.toNatClampNeg v2) then (dz_l (σ.2.2.1 12 (Int32.toNatClampNeg v2)) fun x2 => if x2 ≤ v3 then ((lfX1_becomes K k).2 v1 v2 0 σ) else (dz_l ((9 * v2) + v3) fun x3 => if ¬ (x3 < 0 ∨ 1044 ≤ Int32.toNatClampNeg x3) then (dz_l (σ.2.2.1 14 (Int32.toNatClampNeg x3)) fun x5 => dz_l ((9 * v2) + v3) fun x6 => if ¬ (x6 < 0 ∨ 1044 ≤ Int32.toNatClampNeg x6) then (dz_l (σ.2.2.1 15 (Int32.toNatClampNeg x6)) fun x8 => dz_l ((9 * v2) + v3) fun x9 => if ¬ (x9 < 0 ∨ 1044 ≤ Int32.toNatClampNeg x9) then (dz_l (σ.2.2.1 16 (Int32.toNatClampNeg x9)) fun x11 => dz_b (fnX1_addsDown K v1 x5 x8 x11 σ) fun s13 => dz_l (v3 + 1) fun x14 => (lfX1_becomes K k).1 v1 v2 x14 s13) else none) else none) else none)) else none : Option pM) = some res := hf
      refine lv_iload_n hx hb dX1_becomes_43 rfl (lv_at hl 3 rfl) ?_
      refine lv_aload_n hx hb dX1_becomes_44 rfl (lv_at hl 0 rfl) ?_
      refine va_get (C := RX1) (T := TX1) (N := 35) (fs := mwF ad σ) (v := .ref (ad 12)) hx hb hts in_X1 hown hK hP 0 rfl hci 12 (by decide) (hts _ q1683) (fun _ hq => hq) rfl dX1_becomes_45 ?_
      refine lv_iload_n hx hb dX1_becomes_48 rfl (lv_at hl 2 rfl) ?_
      obtain ⟨g1, hf⟩ := dz_go hf
      refine va_iald hx hb hK hP 10 0 rfl rfl g1 dX1_becomes_49 ?_
      refine lv_topi (fun x2 e_x2 => ?_)
      have hf := dz_ls e_x2 hf
      refine lv_icmp_ge (tgt := 97) hx hb dX1_becomes_50 (by decide) (fun c50 => ?_) (fun c50 => ?_)
      · have hf := dz_t c50 hf
        refine lv_iconst (v := 0) hx hb dX1_becomes_97 (by decide) ?_
        refine lv_istore_n (lv' := [(3, .int 0), (0, .ref h), (1, .int v1), (2, .int v2)]) hx hb dX1_becomes_98 rfl hl (by decide) rfl (fun ls hl => ?_)
        exact ih.2 v1 v2 0 σ H locs hP hD hS ls (lv_sub hl [1, 2, 3, 0] rfl) hf
      · have hf := dz_f c50 hf
        refine lv_aload_n hx hb dX1_becomes_53 rfl (lv_at hl 0 rfl) ?_
        refine lv_iload_n hx hb dX1_becomes_54 rfl (lv_at hl 1 rfl) ?_
        refine lv_aload_n hx hb dX1_becomes_55 rfl (lv_at hl 0 rfl) ?_
        refine va_get (C := RX1) (T := TX1) (N := 35) (fs := mwF ad σ) (v := .ref (ad 14)) hx hb hts in_X1 hown hK hP 0 rfl hci 14 (by decide) (hts _ q1685) (fun _ hq => hq) rfl dX1_becomes_56 ?_
        refine lv_bipush (v := 9) hx hb dX1_becomes_59 (by decide) ?_
        refine lv_iload_n hx hb dX1_becomes_61 rfl (lv_at hl 2 rfl) ?_
        refine lv_imul hx hb dX1_becomes_62 ?_
        refine lv_iload_n hx hb dX1_becomes_63 rfl (lv_at hl 3 rfl) ?_
        refine lv_iadd hx hb dX1_becomes_64 ?_
        refine lv_topi (fun x3 e_x3 => ?_)
        have hf := dz_ls e_x3 hf
        obtain ⟨g4, hf⟩ := dz_go hf
        refine va_iald hx hb hK hP 12 0 rfl rfl g4 dX1_becomes_65 ?_
        refine lv_topi (fun x5 e_x5 => ?_)
        have hf := dz_ls e_x5 hf
        refine lv_aload_n hx hb dX1_becomes_66 rfl (lv_at hl 0 rfl) ?_
        refine va_get (C := RX1) (T := TX1) (N := 35) (fs := mwF ad σ) (v := .ref (ad 15)) hx hb hts in_X1 hown hK hP 0 rfl hci 15 (by decide) (hts _ q1686) (fun _ hq => hq) rfl dX1_becomes_67 ?_
        refine lv_bipush (v := 9) hx hb dX1_becomes_70 (by decide) ?_
        refine lv_iload_n hx hb dX1_becomes_72 rfl (lv_at hl 2 rfl) ?_
        refine lv_imul hx hb dX1_becomes_73 ?_
        refine lv_iload_n hx hb dX1_becomes_74 rfl (lv_at hl 3 rfl) ?_
        refine lv_iadd hx hb dX1_becomes_75 ?_
        refine lv_topi (fun x6 e_x6 => ?_)
        have hf := dz_ls e_x6 hf
        obtain ⟨g7, hf⟩ := dz_go hf
        refine va_iald hx hb hK hP 13 0 rfl rfl g7 dX1_becomes_76 ?_
        refine lv_topi (fun x8 e_x8 => ?_)
        have hf := dz_ls e_x8 hf
        refine lv_aload_n hx hb dX1_becomes_77 rfl (lv_at hl 0 rfl) ?_
        refine va_get (C := RX1) (T := TX1) (N := 35) (fs := mwF ad σ) (v := .ref (ad 16)) hx hb hts in_X1 hown hK hP 0 rfl hci 16 (by decide) (hts _ q1687) (fun _ hq => hq) rfl dX1_becomes_78 ?_
        refine lv_bipush (v := 9) hx hb dX1_becomes_81 (by decide) ?_
        refine lv_iload_n hx hb dX1_becomes_83 rfl (lv_at hl 2 rfl) ?_
        refine lv_imul hx hb dX1_becomes_84 ?_
        refine lv_iload_n hx hb dX1_becomes_85 rfl (lv_at hl 3 rfl) ?_
        refine lv_iadd hx hb dX1_becomes_86 ?_
        refine lv_topi (fun x9 e_x9 => ?_)
        have hf := dz_ls e_x9 hf
        obtain ⟨g10, hf⟩ := dz_go hf
        refine va_iald hx hb hK hP 14 0 rfl rfl g10 dX1_becomes_87 ?_
        refine lv_topi (fun x11 e_x11 => ?_)
        have hf := dz_ls e_x11 hf
        obtain ⟨s13, hx12, hf⟩ := dz_bo hf
        have hFc := dz_free hD hS hA
        refine va_callv (va_runV (As := [.int v1, .int x5, .int x8, .int x11]) (rest := []) ⟨hx, hb, hml, hown, hts⟩ (mtX1_addsDown l D cl ci hci h ad cA H.size σ v1 x5 x8 x11 K s13 hx12) (cwV 4 hts (lw_V q1895 q1897 qs54 q88 q1898) rfl rfl rfl (by decide +kernel) ⟨Nat.le_of_ble_eq_true rfl, Nat.le_of_ble_eq_true rfl⟩) (m_preV hci hK hP hD) rfl rfl hl.1 rfl (lv_room (Nat.le_of_ble_eq_true rfl)) dX1_becomes_88 ⟨Nat.le_refl _, Nat.le_refl _⟩) hS (fun q _ hq => hFc q hq) hFc (fun u t H1 locs ht hvm hw hB hz hk hS => ?_)
        replace hw := hw.symm; subst hw
        replace hP := m_back ht hB
        replace hD := mw_D s13 hD
        clear hB hk hz hvm ht hFc; generalize H1 = H at hP hS ⊢
        obtain ⟨x14, e_x14, hf⟩ := dz_lo hf
        refine lv_iinc (v := x14) (lv' := [(3, .int x14), (0, .ref h), (1, .int v1), (2, .int v2)]) hx hb dX1_becomes_91 hl (k := 3) rfl (by rw [e_x14]; rfl) (by decide) rfl (fun ls hl => ?_)
        refine lv_goto (tgt := 43) hx hb dX1_becomes_94 (by decide) ?_
        exact ih.1 v1 v2 x14 s13 H locs hP hD hS ls (lv_sub hl [1, 2, 3, 0] rfl) hf
    · intro v1 v2 v3 σ H locs hP hD hS ls hl hf
      have hf : (if ¬ (v2 < 0 ∨ 116 ≤ Int32.toNatClampNeg v2) then (dz_l (σ.2.2.1 13 (Int32.toNatClampNeg v2)) fun x2 => if x2 ≤ v3 then (some σ) else (dz_l ((9 * v2) + v3) fun x3 => if ¬ (x3 < 0 ∨ 1044 ≤ Int32.toNatClampNeg x3) then (dz_l (σ.2.2.1 17 (Int32.toNatClampNeg x3)) fun x5 => dz_l ((9 * v2) + v3) fun x6 => if ¬ (x6 < 0 ∨ 1044 ≤ Int32.toNatClampNeg x6) then (dz_l (σ.2.2.1 18 (Int32.toNatClampNeg x6)) fun x8 => dz_b (fnX1_addsUp K v1 x5 x8 σ) fun s10 => dz_l (v3 + 1) fun x11 => (lfX1_becomes K k).2 v1 v2 x11 s10) else none) else none)) else none : Option pM) = some res := hf
      refine lv_iload_n hx hb dX1_becomes_99 rfl (lv_at hl 3 rfl) ?_
      refine lv_aload_n hx hb dX1_becomes_100 rfl (lv_at hl 0 rfl) ?_
      refine va_get (C := RX1) (T := TX1) (N := 35) (fs := mwF ad σ) (v := .ref (ad 13)) hx hb hts in_X1 hown hK hP 0 rfl hci 13 (by decide) (hts _ q1684) (fun _ hq => hq) rfl dX1_becomes_101 ?_
      refine lv_iload_n hx hb dX1_becomes_104 rfl (lv_at hl 2 rfl) ?_
      obtain ⟨g1, hf⟩ := dz_go hf
      refine va_iald hx hb hK hP 11 0 rfl rfl g1 dX1_becomes_105 ?_
      refine lv_topi (fun x2 e_x2 => ?_)
      have hf := dz_ls e_x2 hf
      refine lv_icmp_ge (tgt := 142) hx hb dX1_becomes_106 (by decide) (fun c106 => ?_) (fun c106 => ?_)
      · have hf := dz_t c106 hf
        exact W.vret hx hb hr (fun t ht hW => ⟨⟨σ, rfl, Option.some.inj hf, by rw [ht]; exact hP, va_K.moved hW.alike hK, hD⟩, hS.F ht⟩) hS.2.2 dX1_becomes_142
      · have hf := dz_f c106 hf
        refine lv_aload_n hx hb dX1_becomes_109 rfl (lv_at hl 0 rfl) ?_
        refine lv_iload_n hx hb dX1_becomes_110 rfl (lv_at hl 1 rfl) ?_
        refine lv_aload_n hx hb dX1_becomes_111 rfl (lv_at hl 0 rfl) ?_
        refine va_get (C := RX1) (T := TX1) (N := 35) (fs := mwF ad σ) (v := .ref (ad 17)) hx hb hts in_X1 hown hK hP 0 rfl hci 17 (by decide) (hts _ q1688) (fun _ hq => hq) rfl dX1_becomes_112 ?_
        refine lv_bipush (v := 9) hx hb dX1_becomes_115 (by decide) ?_
        refine lv_iload_n hx hb dX1_becomes_117 rfl (lv_at hl 2 rfl) ?_
        refine lv_imul hx hb dX1_becomes_118 ?_
        refine lv_iload_n hx hb dX1_becomes_119 rfl (lv_at hl 3 rfl) ?_
        refine lv_iadd hx hb dX1_becomes_120 ?_
        refine lv_topi (fun x3 e_x3 => ?_)
        have hf := dz_ls e_x3 hf
        obtain ⟨g4, hf⟩ := dz_go hf
        refine va_iald hx hb hK hP 15 0 rfl rfl g4 dX1_becomes_121 ?_
        refine lv_topi (fun x5 e_x5 => ?_)
        have hf := dz_ls e_x5 hf
        refine lv_aload_n hx hb dX1_becomes_122 rfl (lv_at hl 0 rfl) ?_
        refine va_get (C := RX1) (T := TX1) (N := 35) (fs := mwF ad σ) (v := .ref (ad 18)) hx hb hts in_X1 hown hK hP 0 rfl hci 18 (by decide) (hts _ q1689) (fun _ hq => hq) rfl dX1_becomes_123 ?_
        refine lv_bipush (v := 9) hx hb dX1_becomes_126 (by decide) ?_
        refine lv_iload_n hx hb dX1_becomes_128 rfl (lv_at hl 2 rfl) ?_
        refine lv_imul hx hb dX1_becomes_129 ?_
        refine lv_iload_n hx hb dX1_becomes_130 rfl (lv_at hl 3 rfl) ?_
        refine lv_iadd hx hb dX1_becomes_131 ?_
        refine lv_topi (fun x6 e_x6 => ?_)
        have hf := dz_ls e_x6 hf
        obtain ⟨g7, hf⟩ := dz_go hf
        refine va_iald hx hb hK hP 16 0 rfl rfl g7 dX1_becomes_132 ?_
        refine lv_topi (fun x8 e_x8 => ?_)
        have hf := dz_ls e_x8 hf
        obtain ⟨s10, hx9, hf⟩ := dz_bo hf
        have hFc := dz_free hD hS hA
        refine va_callv (va_runV (As := [.int v1, .int x5, .int x8]) (rest := []) ⟨hx, hb, hml, hown, hts⟩ (mtX1_addsUp l D cl ci hci h ad cA H.size σ v1 x5 x8 K s10 hx9) (cwV 3 hts (lw_V q1891 q1893 qs53 q88 q1894) rfl rfl rfl (by decide +kernel) ⟨Nat.le_of_ble_eq_true rfl, Nat.le_of_ble_eq_true rfl⟩) (m_preV hci hK hP hD) rfl rfl hl.1 rfl (lv_room (Nat.le_of_ble_eq_true rfl)) dX1_becomes_133 ⟨Nat.le_refl _, Nat.le_refl _⟩) hS (fun q _ hq => hFc q hq) hFc (fun u t H1 locs ht hvm hw hB hz hk hS => ?_)
        replace hw := hw.symm; subst hw
        replace hP := m_back ht hB
        replace hD := mw_D s10 hD
        clear hB hk hz hvm ht hFc; generalize H1 = H at hP hS ⊢
        obtain ⟨x11, e_x11, hf⟩ := dz_lo hf
        refine lv_iinc (v := x11) (lv' := [(3, .int x11), (0, .ref h), (1, .int v1), (2, .int v2)]) hx hb dX1_becomes_136 hl (k := 3) rfl (by rw [e_x11]; rfl) (by decide) rfl (fun ls hl => ?_)
        refine lv_goto (tgt := 99) hx hb dX1_becomes_139 (by decide) ?_
        exact ih.2 v1 v2 x11 s10 H locs hP hD hS ls (lv_sub hl [1, 2, 3, 0] rfl) hf
set_option maxHeartbeats 4000000 in
set_option maxRecDepth 100000 in
theorem mtX1_becomes (l : Launch) (D : va_G) (cl : List vw_C) (ci : Nat) (hci : cl[ci]? = some (RX1, TX1, 35)) (h : Nat) (ad : Nat → Nat) (cA : Nat → ClassId) (sz : Nat) (σ : pM) (a0 : Int32) (a1 : Int32) (K : Nat) (res : pM) (hf : fnX1_becomes K a0 a1 σ = some res) : Met l yX1_becomes (ws_ yX1_becomes cX1_becomes 4 (none)) ({ frames := 1, cells := 0, slots := 0, locals := 25 }) (mPc D cl ci h ad cA sz σ [.ref h, .int a0, .int a1]) (mQv D cl ci h ad cA (va_A (mw ci h ad cA σ) sz) res) 0 0 (va_A (mw ci h ad cA σ) sz) := by
  refine Met.ofW (cc := cX1_becomes) (maxL := 4) (ret := none) (by decide +kernel) rfl ?_
  intro p e s m args below meth c s₁ B hml hv
  obtain ⟨rfl, hsz, hP, hK, hD0⟩ := hv
  have hx := B.exec
  have hb := B.bytes
  have hr := B.returns
  have hts := atoms_spec (ws := ws_ yX1_becomes cX1_becomes 4 (none)) B.pre
  have hts : ∀ w ∈ lw_all, w.before _ s = true := fun w h => hts w (List.mem_cons_of_mem _ h)
  have hown : s.vm.findClass RX1 = some m.cls := findClass_of_methodNamed B.named
  have hlocks := B.notSynchronized
  subst hsz
  have hD := hD0.self (sz := s.heap.size)
  generalize hAe : va_A (mw ci h ad cA σ) s.heap.size = A at hD ⊢
  have hA : ∀ q : Nat, s.heap.size ≤ q → A q := fun q h => by rw [← hAe]; exact Or.inr h
  clear hAe hD0
  have hS : va_S A s.heap s.heap [] := va_S.rf
  generalize hHe : s.heap = H at hP hS ⊢
  have hS : va_S A s.heap H [] := by rw [hHe]; exact hS
  generalize ([] : List Loc) = locs at hS ⊢
  have hl := lv_entry ([.ref h, .int a0, .int a1]) (n := 4) (Nat.le_of_ble_eq_true rfl)
  rw [lg_entry_eq]
  generalize (lg_sl ([.ref h, .int a0, .int a1]) ++ List.replicate (4 - (lg_sl ([.ref h, .int a0, .int a1])).length) Slot.unset).toArray = ls at hl ⊢
  have hl : lv_has ls 4 [(0, .ref h), (1, .int a0), (2, .int a1)] := hl
  have hf : (if ¬ (a1 < 0 ∨ 116 ≤ Int32.toNatClampNeg a1) then (dz_l (σ.2.2.1 8 (Int32.toNatClampNeg a1)) fun x2 => if ¬ (a1 < 0 ∨ 116 ≤ Int32.toNatClampNeg a1) then (dz_l (σ.2.2.1 9 (Int32.toNatClampNeg a1)) fun x4 => dz_b (fnX1_begins K a0 x2 x4 σ) fun s6 => if ¬ (a1 < 0 ∨ 116 ≤ Int32.toNatClampNeg a1) then (dz_l (s6.2.2.1 10 (Int32.toNatClampNeg a1)) fun x8 => if ¬ (a0 < 0 ∨ 116 ≤ Int32.toNatClampNeg a0) then (dz_l (mI s6 10 (Int32.toNatClampNeg a0) x8) fun s10 => if ¬ (a1 < 0 ∨ 116 ≤ Int32.toNatClampNeg a1) then (dz_l (s10.2.2.1 11 (Int32.toNatClampNeg a1)) fun x12 => if ¬ (a0 < 0 ∨ 116 ≤ Int32.toNatClampNeg a0) then (dz_l (mI s10 11 (Int32.toNatClampNeg a0) x12) fun s14 => (lfX1_becomes K K).1 a0 a1 0 s14) else none) else none) else none) else none) else none) else none : Option pM) = some res := hf
  have ih := wlX1_becomes (l := l) (e := e) (below := below) (h := h) (ad := ad) (cA := cA) hci hA hK K res a0 a1 hx hb hr hlocks hml hown hts K
  refine lv_aload_n hx hb dX1_becomes_0 rfl (lv_at hl 0 rfl) ?_
  refine lv_iload_n hx hb dX1_becomes_1 rfl (lv_at hl 1 rfl) ?_
  refine lv_aload_n hx hb dX1_becomes_2 rfl (lv_at hl 0 rfl) ?_
  refine va_get (C := RX1) (T := TX1) (N := 35) (fs := mwF ad σ) (v := .ref (ad 8)) hx hb hts in_X1 hown hK hP 0 rfl hci 8 (by decide) (hts _ q1679) (fun _ hq => hq) rfl dX1_becomes_3 ?_
  refine lv_iload_n hx hb dX1_becomes_6 rfl (lv_at hl 2 rfl) ?_
  obtain ⟨g1, hf⟩ := dz_go hf
  refine va_iald hx hb hK hP 6 0 rfl rfl g1 dX1_becomes_7 ?_
  refine lv_topi (fun x2 e_x2 => ?_)
  have hf := dz_ls e_x2 hf
  refine lv_aload_n hx hb dX1_becomes_8 rfl (lv_at hl 0 rfl) ?_
  refine va_get (C := RX1) (T := TX1) (N := 35) (fs := mwF ad σ) (v := .ref (ad 9)) hx hb hts in_X1 hown hK hP 0 rfl hci 9 (by decide) (hts _ q1680) (fun _ hq => hq) rfl dX1_becomes_9 ?_
  refine lv_iload_n hx hb dX1_becomes_12 rfl (lv_at hl 2 rfl) ?_
  obtain ⟨g3, hf⟩ := dz_go hf
  refine va_iald hx hb hK hP 7 0 rfl rfl g3 dX1_becomes_13 ?_
  refine lv_topi (fun x4 e_x4 => ?_)
  have hf := dz_ls e_x4 hf
  obtain ⟨s6, hx5, hf⟩ := dz_bo hf
  have hFc := dz_free hD hS hA
  refine va_callv (va_runV (As := [.int a0, .int x2, .int x4]) (rest := []) ⟨hx, hb, hml, hown, hts⟩ (mtX1_begins l D cl ci hci h ad cA H.size σ a0 x2 x4 K s6 hx5) (cwV 3 hts (lw_V q1875 q1877 qs49 q88 q1878) rfl rfl rfl (by decide +kernel) ⟨Nat.le_of_ble_eq_true rfl, Nat.le_of_ble_eq_true rfl⟩) (m_preV hci hK hP hD) rfl rfl hl.1 rfl (lv_room (Nat.le_of_ble_eq_true rfl)) dX1_becomes_14 ⟨Nat.le_refl _, Nat.le_refl _⟩) hS (fun q _ hq => hFc q hq) hFc (fun u t H1 locs ht hvm hw hB hz hk hS => ?_)
  replace hw := hw.symm; subst hw
  replace hP := m_back ht hB
  replace hD := mw_D s6 hD
  clear hB hk hz hvm ht hFc; generalize H1 = H at hP hS ⊢
  refine lv_aload_n hx hb dX1_becomes_17 rfl (lv_at hl 0 rfl) ?_
  refine va_get (C := RX1) (T := TX1) (N := 35) (fs := mwF ad s6) (v := .ref (ad 10)) hx hb hts in_X1 hown hK hP 0 rfl hci 10 (by decide) (hts _ q1681) (fun _ hq => hq) rfl dX1_becomes_18 ?_
  refine lv_iload_n hx hb dX1_becomes_21 rfl (lv_at hl 1 rfl) ?_
  refine lv_aload_n hx hb dX1_becomes_22 rfl (lv_at hl 0 rfl) ?_
  refine va_get (C := RX1) (T := TX1) (N := 35) (fs := mwF ad s6) (v := .ref (ad 10)) hx hb hts in_X1 hown hK hP 0 rfl hci 10 (by decide) (hts _ q1681) (fun _ hq => hq) rfl dX1_becomes_23 ?_
  refine lv_iload_n hx hb dX1_becomes_26 rfl (lv_at hl 2 rfl) ?_
  obtain ⟨g7, hf⟩ := dz_go hf
  refine va_iald hx hb hK hP 8 0 rfl rfl g7 dX1_becomes_27 ?_
  refine lv_topi (fun x8 e_x8 => ?_)
  have hf := dz_ls e_x8 hf
  obtain ⟨g9, hf⟩ := dz_go hf
  refine va_iast hx hb hK hP hD hS 8 0 rfl rfl g9 dX1_becomes_28 (fun H locs hP1 _ hS => ?_)
  obtain ⟨s10, e_s10, hf⟩ := dz_lo hf
  have hP : va_P D cl (mw ci h ad cA s10) H := by rw [e_s10]; exact hP1
  clear hP1; replace hD := mw_D s10 hD
  refine lv_aload_n hx hb dX1_becomes_29 rfl (lv_at hl 0 rfl) ?_
  refine va_get (C := RX1) (T := TX1) (N := 35) (fs := mwF ad s10) (v := .ref (ad 11)) hx hb hts in_X1 hown hK hP 0 rfl hci 11 (by decide) (hts _ q1682) (fun _ hq => hq) rfl dX1_becomes_30 ?_
  refine lv_iload_n hx hb dX1_becomes_33 rfl (lv_at hl 1 rfl) ?_
  refine lv_aload_n hx hb dX1_becomes_34 rfl (lv_at hl 0 rfl) ?_
  refine va_get (C := RX1) (T := TX1) (N := 35) (fs := mwF ad s10) (v := .ref (ad 11)) hx hb hts in_X1 hown hK hP 0 rfl hci 11 (by decide) (hts _ q1682) (fun _ hq => hq) rfl dX1_becomes_35 ?_
  refine lv_iload_n hx hb dX1_becomes_38 rfl (lv_at hl 2 rfl) ?_
  obtain ⟨g11, hf⟩ := dz_go hf
  refine va_iald hx hb hK hP 9 0 rfl rfl g11 dX1_becomes_39 ?_
  refine lv_topi (fun x12 e_x12 => ?_)
  have hf := dz_ls e_x12 hf
  obtain ⟨g13, hf⟩ := dz_go hf
  refine va_iast hx hb hK hP hD hS 9 0 rfl rfl g13 dX1_becomes_40 (fun H locs hP1 _ hS => ?_)
  obtain ⟨s14, e_s14, hf⟩ := dz_lo hf
  have hP : va_P D cl (mw ci h ad cA s14) H := by rw [e_s14]; exact hP1
  clear hP1; replace hD := mw_D s14 hD
  refine lv_iconst (v := 0) hx hb dX1_becomes_41 (by decide) ?_
  refine lv_istore_n (lv' := [(3, .int 0), (0, .ref h), (1, .int a0), (2, .int a1)]) hx hb dX1_becomes_42 rfl hl (by decide) rfl (fun ls hl => ?_)
  exact ih.1 a0 a1 0 s14 H locs hP hD hS ls (lv_sub hl [1, 2, 3, 0] rfl) hf

noncomputable def fnX1_in (K : Nat) (a0 : Int64) (a1 : Int64) (a2 : Int64) : Option Int32 := if a0 < a1 then (some 0) else (if a2 < a0 then (some 0) else (some 1))
set_option maxHeartbeats 4000000 in
set_option maxRecDepth 100000 in
theorem mtX1_in (l : Launch) (a0 : Int64) (a1 : Int64) (a2 : Int64) (K : Nat) (res : Int32) (hf : fnX1_in K a0 a1 a2 = some res) : Met l yX1_in (ws_ yX1_in cX1_in 6 (some .boolean)) ({ frames := 0, cells := 0, slots := 0, locals := 0 }) (dz_P [.long a0, .long a1, .long a2]) (dz_Qi res) 0 0 (fun _ => False) := by
  refine Met.ofW (cc := cX1_in) (maxL := 6) (ret := some .boolean) (by decide +kernel) rfl ?_
  intro p e s m args below meth c s₁ B hml hv
  obtain ⟨rfl, -⟩ := hv
  have hx := B.exec
  have hb := B.bytes
  have hr := B.returns
  have hts := atoms_spec (ws := ws_ yX1_in cX1_in 6 (some .boolean)) B.pre
  have hts : ∀ w ∈ lw_all, w.before _ s = true := fun w h => hts w (List.mem_cons_of_mem _ h)
  have hown : s.vm.findClass RX1 = some m.cls := findClass_of_methodNamed B.named
  have hlocks := B.notSynchronized
  have hS : va_S (fun _ => False) s.heap s.heap [] := va_S.rf
  generalize hHe : s.heap = H at hS ⊢
  have hS : va_S (fun _ => False) s.heap H [] := by rw [hHe]; exact hS
  generalize ([] : List Loc) = locs at hS ⊢
  have hl := lv_entry ([.long a0, .long a1, .long a2]) (n := 6) (Nat.le_of_ble_eq_true rfl)
  rw [lg_entry_eq]
  generalize (lg_sl ([.long a0, .long a1, .long a2]) ++ List.replicate (6 - (lg_sl ([.long a0, .long a1, .long a2])).length) Slot.unset).toArray = ls at hl ⊢
  have hl : lv_has ls 6 [(0, .long a0), (2, .long a1), (4, .long a2)] := hl
  have hf : (if a0 < a1 then (some 0) else (if a2 < a0 then (some 0) else (some 1)) : Option Int32) = some res := hf
  refine lv_lload_n hx hb dX1_in_0 rfl (lv_at hl 0 rfl) ?_
  refine lv_lload_n hx hb dX1_in_1 rfl (lv_at hl 1 rfl) ?_
  refine W.lcmp hx hb dX1_in_2 ?_
  refine lv_if_lt (tgt := 17) hx hb dX1_in_3 (by decide) (fun c3 => ?_) (fun c3 => ?_)
  · have c3 : a0 < a1 := (lg_cmp_lt _ _).mp c3
    have hf := dz_t c3 hf
    refine lv_iconst (v := 0) hx hb dX1_in_17 (by decide) ?_
    exact W.zret (v := 0) hx hb hr rfl (fun t ht hW => ⟨⟨0, (), rfl, Option.some.inj hf, trivial⟩, hS.F ht⟩) hS.2.2 dX1_in_18
  · have c3 : ¬ a0 < a1 := fun hq => c3 ((lg_cmp_lt _ _).mpr hq)
    have hf := dz_f c3 hf
    refine lv_lload_n hx hb dX1_in_6 rfl (lv_at hl 0 rfl) ?_
    refine lv_lload hx hb dX1_in_7 (lv_at hl 2 rfl) ?_
    refine W.lcmp hx hb dX1_in_9 ?_
    refine lv_if_gt (tgt := 17) hx hb dX1_in_10 (by decide) (fun c10 => ?_) (fun c10 => ?_)
    · have c10 : a2 < a0 := (lg_cmp_gt _ _).mp c10
      have hf := dz_t c10 hf
      refine lv_iconst (v := 0) hx hb dX1_in_17 (by decide) ?_
      exact W.zret (v := 0) hx hb hr rfl (fun t ht hW => ⟨⟨0, (), rfl, Option.some.inj hf, trivial⟩, hS.F ht⟩) hS.2.2 dX1_in_18
    · have c10 : ¬ a2 < a0 := fun hq => c10 ((lg_cmp_gt _ _).mpr hq)
      have hf := dz_f c10 hf
      refine lv_iconst (v := 1) hx hb dX1_in_13 (by decide) ?_
      refine lv_goto (tgt := 18) hx hb dX1_in_14 (by decide) ?_
      exact W.zret (v := 1) hx hb hr rfl (fun t ht hW => ⟨⟨1, (), rfl, Option.some.inj hf, trivial⟩, hS.F ht⟩) hS.2.2 dX1_in_18

noncomputable def fnX1_isNumber (K : Nat) (a0 : Int64) : Option Int32 := dz_b (fnX1_in K a0 2 1000000000) fun x1 => if x1 = 0 ∨ x1 = 1 then (some x1) else none
set_option maxHeartbeats 4000000 in
set_option maxRecDepth 100000 in
theorem mtX1_isNumber (l : Launch) (a0 : Int64) (K : Nat) (res : Int32) (hf : fnX1_isNumber K a0 = some res) : Met l yX1_isNumber (ws_ yX1_isNumber cX1_isNumber 2 (some .boolean)) ({ frames := 1, cells := 0, slots := 0, locals := 25 }) (dz_P [.long a0]) (dz_Qi res) 0 0 (fun _ => False) := by
  refine Met.ofW (cc := cX1_isNumber) (maxL := 2) (ret := some .boolean) (by decide +kernel) rfl ?_
  intro p e s m args below meth c s₁ B hml hv
  obtain ⟨rfl, -⟩ := hv
  have hx := B.exec
  have hb := B.bytes
  have hr := B.returns
  have hts := atoms_spec (ws := ws_ yX1_isNumber cX1_isNumber 2 (some .boolean)) B.pre
  have hts : ∀ w ∈ lw_all, w.before _ s = true := fun w h => hts w (List.mem_cons_of_mem _ h)
  have hown : s.vm.findClass RX1 = some m.cls := findClass_of_methodNamed B.named
  have hlocks := B.notSynchronized
  have hS : va_S (fun _ => False) s.heap s.heap [] := va_S.rf
  generalize hHe : s.heap = H at hS ⊢
  have hS : va_S (fun _ => False) s.heap H [] := by rw [hHe]; exact hS
  generalize ([] : List Loc) = locs at hS ⊢
  have hl := lv_entry ([.long a0]) (n := 2) (Nat.le_of_ble_eq_true rfl)
  rw [lg_entry_eq]
  generalize (lg_sl ([.long a0]) ++ List.replicate (2 - (lg_sl ([.long a0])).length) Slot.unset).toArray = ls at hl ⊢
  have hl : lv_has ls 2 [(0, .long a0)] := hl
  have hf : (dz_b (fnX1_in K a0 2 1000000000) fun x1 => if x1 = 0 ∨ x1 = 1 then (some x1) else none : Option Int32) = some res := hf
  refine lv_lload_n hx hb dX1_isNumber_0 rfl (lv_at hl 0 rfl) ?_
  refine lv_ldc2 (v := 2) hx hb hown (hts _ q1789) dX1_isNumber_1 ?_
  refine lv_ldc2 (v := 1000000000) hx hb hown (hts _ q1790) dX1_isNumber_4 ?_
  obtain ⟨x1, hx1, hf⟩ := dz_bo hf
  refine va_calli (va_runS (As := [.long a0, .long 2, .long 1000000000]) (rest := []) ⟨hx, hb, hml, hown, hts⟩ (mtX1_in l a0 2 1000000000 K x1 hx1) (va_cwS 3 hts (lw_S q1783 q1784 q88 q1785) rfl rfl rfl (by decide +kernel) ⟨Nat.le_of_ble_eq_true rfl, Nat.le_of_ble_eq_true rfl⟩) ⟨fun a U g mk q => q, fun U hU hW => ⟨rfl, trivial⟩⟩ rfl rfl hl.1 rfl (lv_room (Nat.le_of_ble_eq_true rfl)) dX1_isNumber_7 ⟨Nat.le_refl _, Nat.le_refl _⟩) hS (fun q _ hq => hq.elim) (fun q hq => hq.elim) (fun r u t H1 locs ht hvm hw hB hz hk hS => ?_)
  replace hw := hw.symm; subst hw
  clear hB hk hz hvm ht; generalize H1 = H at hS ⊢
  obtain ⟨g2, hf⟩ := dz_go hf
  exact W.zret (v := x1) hx hb hr (dz_nz g2) (fun t ht hW => ⟨⟨x1, (), rfl, Option.some.inj hf, trivial⟩, hS.F ht⟩) hS.2.2 dX1_isNumber_10

noncomputable def lfX1_areTwice_14 (K : Nat) : Nat → (Int32 → Int32 → Int32 → pM → Option (Int32 × pM)) × (Int32 → Int32 → Int32 → Int32 → pM → Option (Int32 × pM)) := Nat.rec (motive := fun _ => (Int32 → Int32 → Int32 → pM → Option (Int32 × pM)) × (Int32 → Int32 → Int32 → Int32 → pM → Option (Int32 × pM))) ((fun _ _ _ _ => none), (fun _ _ _ _ _ => none)) (fun _ G => ((fun v1 v2 v3 σ => if (v1 + v2) ≤ v3 then (some (0, σ)) else (G.2 v1 v2 v3 v1 σ)), (fun v1 v2 v3 v4 σ => if v3 ≤ v4 then (dz_l (v3 + 1) fun x1 => G.1 v1 v2 x1 σ) else (if ¬ (v3 < 0 ∨ 1044 ≤ Int32.toNatClampNeg v3) then (dz_l (σ.2.2.1 14 (Int32.toNatClampNeg v3)) fun x3 => if ¬ (v4 < 0 ∨ 1044 ≤ Int32.toNatClampNeg v4) then (dz_l (σ.2.2.1 14 (Int32.toNatClampNeg v4)) fun x5 => if x3 = x5 then (some (1, σ)) else (dz_l (v4 + 1) fun x6 => G.2 v1 v2 v3 x6 σ)) else none) else none))))
noncomputable def fnX1_areTwice_14 (K : Nat) (a0 : Int32) (a1 : Int32) (σ : pM) : Option (Int32 × pM) := (lfX1_areTwice_14 K K).1 a0 a1 a0 σ
set_option maxHeartbeats 4000000 in
set_option maxRecDepth 100000 in
theorem wlX1_areTwice_14 {p : Program} {l : Launch} {e : Env} {s : State} {m : MethodId} {below : List Frame} {meth : Method} {c : Code} {D : va_G} {cl : List vw_C} {ci : Nat} (hci : cl[ci]? = some (RX1, TX1, 35)) {h : Nat} {ad : Nat → Nat} {cA : Nat → ClassId} {A : Nat → Prop} (hA : ∀ q : Nat, s.heap.size ≤ q → A q) (hK : va_K D cl (mtys cA) s) (K : Nat) (res : (Int32 × pM)) (a0 : Int32) (a1 : Int32) (hx : p.tables.exec = Jvm.exec) (hb : c.code = cX1_areTwice) (hr : meth.sig.returnType = some .boolean) (hlocks : meth.locks = false) (hml : c.maxLocals = 5) (hown : s.vm.findClass RX1 = some m.cls) (hts : ∀ w ∈ lw_all, w.before ([.ref (ad 14), .int a0, .int a1] : List Value).toArray s = true) : ∀ k : Nat, (∀ (v1 : Int32) (v2 : Int32) (v3 : Int32) (σ : pM) (H : Heap) (locs : List Loc), va_P D cl (mw ci h ad cA σ) H → va_D A (mw ci h ad cA σ) → va_S A s.heap H locs → ∀ (ls : Array Slot), lv_has ls 5 [(0, .ref (ad 14)), (1, .int v1), (2, .int v2), (3, .int v3)] → (lfX1_areTwice_14 K k).1 v1 v2 v3 σ = some res → W p l e (headSpec (ws_ yX1_areTwice cX1_areTwice 5 (some .boolean)) ({ frames := 0, cells := 0, slots := 0, locals := 0 })).room s m ([.ref (ad 14), .int a0, .int a1] : List Value).toArray below meth c H locs 0 0 (MQ below (mQi D cl ci h ad cA A res) ([.ref (ad 14), .int a0, .int a1] : List Value).toArray s 0 0 A) (F0 m 2 ls [])) ∧ (∀ (v1 : Int32) (v2 : Int32) (v3 : Int32) (v4 : Int32) (σ : pM) (H : Heap) (locs : List Loc), va_P D cl (mw ci h ad cA σ) H → va_D A (mw ci h ad cA σ) → va_S A s.heap H locs → ∀ (ls : Array Slot), lv_has ls 5 [(0, .ref (ad 14)), (1, .int v1), (2, .int v2), (3, .int v3), (4, .int v4)] → (lfX1_areTwice_14 K k).2 v1 v2 v3 v4 σ = some res → W p l e (headSpec (ws_ yX1_areTwice cX1_areTwice 5 (some .boolean)) ({ frames := 0, cells := 0, slots := 0, locals := 0 })).room s m ([.ref (ad 14), .int a0, .int a1] : List Value).toArray below meth c H locs 0 0 (MQ below (mQi D cl ci h ad cA A res) ([.ref (ad 14), .int a0, .int a1] : List Value).toArray s 0 0 A) (F0 m 12 ls [])) := by
  intro k
  induction k with
  | zero =>
    exact ⟨fun _ _ _ _ _ _ _ _ _ _ _ hf => (by cases hf), fun _ _ _ _ _ _ _ _ _ _ _ _ hf => (by cases hf)⟩
  | succ k ih =>
    refine ⟨?_, ?_⟩
    · intro v1 v2 v3 σ H locs hP hD hS ls hl hf
      have hf : (if (v1 + v2) ≤ v3 then (some (0, σ)) else ((lfX1_areTwice_14 K k).2 v1 v2 v3 v1 σ) : Option (Int32 × pM)) = some res := hf
      refine lv_iload_n hx hb dX1_areTwice_2 rfl (lv_at hl 3 rfl) ?_
      refine lv_iload_n hx hb dX1_areTwice_3 rfl (lv_at hl 1 rfl) ?_
      refine lv_iload_n hx hb dX1_areTwice_4 rfl (lv_at hl 2 rfl) ?_
      refine lv_iadd hx hb dX1_areTwice_5 ?_
      refine lv_icmp_ge (tgt := 42) hx hb dX1_areTwice_6 (by decide) (fun c6 => ?_) (fun c6 => ?_)
      · have hf := dz_t c6 hf
        refine lv_iconst (v := 0) hx hb dX1_areTwice_42 (by decide) ?_
        exact W.zret (v := 0) hx hb hr rfl (fun t ht hW => ⟨⟨0, σ, rfl, Option.some.inj hf, by rw [ht]; exact hP, va_K.moved hW.alike hK, hD⟩, hS.F ht⟩) hS.2.2 dX1_areTwice_43
      · have hf := dz_f c6 hf
        refine lv_iload_n hx hb dX1_areTwice_9 rfl (lv_at hl 1 rfl) ?_
        refine lv_istore (lv' := [(4, .int v1), (0, .ref (ad 14)), (1, .int v1), (2, .int v2), (3, .int v3)]) hx hb dX1_areTwice_10 hl (by decide) rfl (fun ls hl => ?_)
        exact ih.2 v1 v2 v3 v1 σ H locs hP hD hS ls (lv_sub hl [1, 2, 3, 4, 0] rfl) hf
    · intro v1 v2 v3 v4 σ H locs hP hD hS ls hl hf
      have hf : (if v3 ≤ v4 then (dz_l (v3 + 1) fun x1 => (lfX1_areTwice_14 K k).1 v1 v2 x1 σ) else (if ¬ (v3 < 0 ∨ 1044 ≤ Int32.toNatClampNeg v3) then (dz_l (σ.2.2.1 14 (Int32.toNatClampNeg v3)) fun x3 => if ¬ (v4 < 0 ∨ 1044 ≤ Int32.toNatClampNeg v4) then (dz_l (σ.2.2.1 14 (Int32.toNatClampNeg v4)) fun x5 => if x3 = x5 then (some (1, σ)) else (dz_l (v4 + 1) fun x6 => (lfX1_areTwice_14 K k).2 v1 v2 v3 x6 σ)) else none) else none) : Option (Int32 × pM)) = some res := hf
      refine lv_iload hx hb dX1_areTwice_12 (lv_at hl 4 rfl) ?_
      refine lv_iload_n hx hb dX1_areTwice_14 rfl (lv_at hl 3 rfl) ?_
      refine lv_icmp_ge (tgt := 36) hx hb dX1_areTwice_15 (by decide) (fun c15 => ?_) (fun c15 => ?_)
      · have hf := dz_t c15 hf
        obtain ⟨x1, e_x1, hf⟩ := dz_lo hf
        refine lv_iinc (v := x1) (lv' := [(3, .int x1), (0, .ref (ad 14)), (1, .int v1), (2, .int v2), (4, .int v4)]) hx hb dX1_areTwice_36 hl (k := 3) rfl (by rw [e_x1]; rfl) (by decide) rfl (fun ls hl => ?_)
        refine lv_goto (tgt := 2) hx hb dX1_areTwice_39 (by decide) ?_
        exact ih.1 v1 v2 x1 σ H locs hP hD hS ls (lv_sub hl [1, 2, 3, 0] rfl) hf
      · have hf := dz_f c15 hf
        refine lv_aload_n hx hb dX1_areTwice_18 rfl (lv_at hl 0 rfl) ?_
        refine lv_iload_n hx hb dX1_areTwice_19 rfl (lv_at hl 3 rfl) ?_
        obtain ⟨g2, hf⟩ := dz_go hf
        refine va_iald hx hb hK hP 12 0 rfl rfl g2 dX1_areTwice_20 ?_
        refine lv_topi (fun x3 e_x3 => ?_)
        have hf := dz_ls e_x3 hf
        refine lv_aload_n hx hb dX1_areTwice_21 rfl (lv_at hl 0 rfl) ?_
        refine lv_iload hx hb dX1_areTwice_22 (lv_at hl 4 rfl) ?_
        obtain ⟨g4, hf⟩ := dz_go hf
        refine va_iald hx hb hK hP 12 0 rfl rfl g4 dX1_areTwice_24 ?_
        refine lv_topi (fun x5 e_x5 => ?_)
        have hf := dz_ls e_x5 hf
        refine lv_icmp_ne (tgt := 30) hx hb dX1_areTwice_25 (by decide) (fun c25 => ?_) (fun c25 => ?_)
        · have hf := dz_f c25 hf
          obtain ⟨x6, e_x6, hf⟩ := dz_lo hf
          refine lv_iinc (v := x6) (lv' := [(4, .int x6), (0, .ref (ad 14)), (1, .int v1), (2, .int v2), (3, .int v3)]) hx hb dX1_areTwice_30 hl (k := 4) rfl (by rw [e_x6]; rfl) (by decide) rfl (fun ls hl => ?_)
          refine lv_goto (tgt := 12) hx hb dX1_areTwice_33 (by decide) ?_
          exact ih.2 v1 v2 v3 x6 σ H locs hP hD hS ls (lv_sub hl [1, 2, 3, 4, 0] rfl) hf
        · have hf := dz_t c25 hf
          refine lv_iconst (v := 1) hx hb dX1_areTwice_28 (by decide) ?_
          exact W.zret (v := 1) hx hb hr rfl (fun t ht hW => ⟨⟨1, σ, rfl, Option.some.inj hf, by rw [ht]; exact hP, va_K.moved hW.alike hK, hD⟩, hS.F ht⟩) hS.2.2 dX1_areTwice_29
set_option maxHeartbeats 4000000 in
set_option maxRecDepth 100000 in
theorem mtX1_areTwice_14 (l : Launch) (D : va_G) (cl : List vw_C) (ci : Nat) (hci : cl[ci]? = some (RX1, TX1, 35)) (h : Nat) (ad : Nat → Nat) (cA : Nat → ClassId) (sz : Nat) (σ : pM) (a0 : Int32) (a1 : Int32) (K : Nat) (res : (Int32 × pM)) (hf : fnX1_areTwice_14 K a0 a1 σ = some res) : Met l yX1_areTwice (ws_ yX1_areTwice cX1_areTwice 5 (some .boolean)) ({ frames := 0, cells := 0, slots := 0, locals := 0 }) (mPc D cl ci h ad cA sz σ [.ref (ad 14), .int a0, .int a1]) (mQi D cl ci h ad cA (va_A (mw ci h ad cA σ) sz) res) 0 0 (va_A (mw ci h ad cA σ) sz) := by
  refine Met.ofW (cc := cX1_areTwice) (maxL := 5) (ret := some .boolean) (by decide +kernel) rfl ?_
  intro p e s m args below meth c s₁ B hml hv
  obtain ⟨rfl, hsz, hP, hK, hD0⟩ := hv
  have hx := B.exec
  have hb := B.bytes
  have hr := B.returns
  have hts := atoms_spec (ws := ws_ yX1_areTwice cX1_areTwice 5 (some .boolean)) B.pre
  have hts : ∀ w ∈ lw_all, w.before _ s = true := fun w h => hts w (List.mem_cons_of_mem _ h)
  have hown : s.vm.findClass RX1 = some m.cls := findClass_of_methodNamed B.named
  have hlocks := B.notSynchronized
  subst hsz
  have hD := hD0.self (sz := s.heap.size)
  generalize hAe : va_A (mw ci h ad cA σ) s.heap.size = A at hD ⊢
  have hA : ∀ q : Nat, s.heap.size ≤ q → A q := fun q h => by rw [← hAe]; exact Or.inr h
  clear hAe hD0
  have hS : va_S A s.heap s.heap [] := va_S.rf
  generalize hHe : s.heap = H at hP hS ⊢
  have hS : va_S A s.heap H [] := by rw [hHe]; exact hS
  generalize ([] : List Loc) = locs at hS ⊢
  have hl := lv_entry ([.ref (ad 14), .int a0, .int a1]) (n := 5) (Nat.le_of_ble_eq_true rfl)
  rw [lg_entry_eq]
  generalize (lg_sl ([.ref (ad 14), .int a0, .int a1]) ++ List.replicate (5 - (lg_sl ([.ref (ad 14), .int a0, .int a1])).length) Slot.unset).toArray = ls at hl ⊢
  have hl : lv_has ls 5 [(0, .ref (ad 14)), (1, .int a0), (2, .int a1)] := hl
  have hf : ((lfX1_areTwice_14 K K).1 a0 a1 a0 σ : Option (Int32 × pM)) = some res := hf
  have ih := wlX1_areTwice_14 (l := l) (e := e) (below := below) (h := h) (ad := ad) (cA := cA) hci hA hK K res a0 a1 hx hb hr hlocks hml hown hts K
  refine lv_iload_n hx hb dX1_areTwice_0 rfl (lv_at hl 1 rfl) ?_
  refine lv_istore_n (lv' := [(3, .int a0), (0, .ref (ad 14)), (1, .int a0), (2, .int a1)]) hx hb dX1_areTwice_1 rfl hl (by decide) rfl (fun ls hl => ?_)
  exact ih.1 a0 a1 a0 σ H locs hP hD hS ls (lv_sub hl [1, 2, 3, 0] rfl) hf

noncomputable def lfX1_areTwice_17 (K : Nat) : Nat → (Int32 → Int32 → Int32 → pM → Option (Int32 × pM)) × (Int32 → Int32 → Int32 → Int32 → pM → Option (Int32 × pM)) := Nat.rec (motive := fun _ => (Int32 → Int32 → Int32 → pM → Option (Int32 × pM)) × (Int32 → Int32 → Int32 → Int32 → pM → Option (Int32 × pM))) ((fun _ _ _ _ => none), (fun _ _ _ _ _ => none)) (fun _ G => ((fun v1 v2 v3 σ => if (v1 + v2) ≤ v3 then (some (0, σ)) else (G.2 v1 v2 v3 v1 σ)), (fun v1 v2 v3 v4 σ => if v3 ≤ v4 then (dz_l (v3 + 1) fun x1 => G.1 v1 v2 x1 σ) else (if ¬ (v3 < 0 ∨ 1044 ≤ Int32.toNatClampNeg v3) then (dz_l (σ.2.2.1 17 (Int32.toNatClampNeg v3)) fun x3 => if ¬ (v4 < 0 ∨ 1044 ≤ Int32.toNatClampNeg v4) then (dz_l (σ.2.2.1 17 (Int32.toNatClampNeg v4)) fun x5 => if x3 = x5 then (some (1, σ)) else (dz_l (v4 + 1) fun x6 => G.2 v1 v2 v3 x6 σ)) else none) else none))))
noncomputable def fnX1_areTwice_17 (K : Nat) (a0 : Int32) (a1 : Int32) (σ : pM) : Option (Int32 × pM) := (lfX1_areTwice_17 K K).1 a0 a1 a0 σ
set_option maxHeartbeats 4000000 in
set_option maxRecDepth 100000 in
theorem wlX1_areTwice_17 {p : Program} {l : Launch} {e : Env} {s : State} {m : MethodId} {below : List Frame} {meth : Method} {c : Code} {D : va_G} {cl : List vw_C} {ci : Nat} (hci : cl[ci]? = some (RX1, TX1, 35)) {h : Nat} {ad : Nat → Nat} {cA : Nat → ClassId} {A : Nat → Prop} (hA : ∀ q : Nat, s.heap.size ≤ q → A q) (hK : va_K D cl (mtys cA) s) (K : Nat) (res : (Int32 × pM)) (a0 : Int32) (a1 : Int32) (hx : p.tables.exec = Jvm.exec) (hb : c.code = cX1_areTwice) (hr : meth.sig.returnType = some .boolean) (hlocks : meth.locks = false) (hml : c.maxLocals = 5) (hown : s.vm.findClass RX1 = some m.cls) (hts : ∀ w ∈ lw_all, w.before ([.ref (ad 17), .int a0, .int a1] : List Value).toArray s = true) : ∀ k : Nat, (∀ (v1 : Int32) (v2 : Int32) (v3 : Int32) (σ : pM) (H : Heap) (locs : List Loc), va_P D cl (mw ci h ad cA σ) H → va_D A (mw ci h ad cA σ) → va_S A s.heap H locs → ∀ (ls : Array Slot), lv_has ls 5 [(0, .ref (ad 17)), (1, .int v1), (2, .int v2), (3, .int v3)] → (lfX1_areTwice_17 K k).1 v1 v2 v3 σ = some res → W p l e (headSpec (ws_ yX1_areTwice cX1_areTwice 5 (some .boolean)) ({ frames := 0, cells := 0, slots := 0, locals := 0 })).room s m ([.ref (ad 17), .int a0, .int a1] : List Value).toArray below meth c H locs 0 0 (MQ below (mQi D cl ci h ad cA A res) ([.ref (ad 17), .int a0, .int a1] : List Value).toArray s 0 0 A) (F0 m 2 ls [])) ∧ (∀ (v1 : Int32) (v2 : Int32) (v3 : Int32) (v4 : Int32) (σ : pM) (H : Heap) (locs : List Loc), va_P D cl (mw ci h ad cA σ) H → va_D A (mw ci h ad cA σ) → va_S A s.heap H locs → ∀ (ls : Array Slot), lv_has ls 5 [(0, .ref (ad 17)), (1, .int v1), (2, .int v2), (3, .int v3), (4, .int v4)] → (lfX1_areTwice_17 K k).2 v1 v2 v3 v4 σ = some res → W p l e (headSpec (ws_ yX1_areTwice cX1_areTwice 5 (some .boolean)) ({ frames := 0, cells := 0, slots := 0, locals := 0 })).room s m ([.ref (ad 17), .int a0, .int a1] : List Value).toArray below meth c H locs 0 0 (MQ below (mQi D cl ci h ad cA A res) ([.ref (ad 17), .int a0, .int a1] : List Value).toArray s 0 0 A) (F0 m 12 ls [])) := by
  intro k
  induction k with
  | zero =>
    exact ⟨fun _ _ _ _ _ _ _ _ _ _ _ hf => (by cases hf), fun _ _ _ _ _ _ _ _ _ _ _ _ hf => (by cases hf)⟩
  | succ k ih =>
    refine ⟨?_, ?_⟩
    · intro v1 v2 v3 σ H locs hP hD hS ls hl hf
      have hf : (if (v1 + v2) ≤ v3 then (some (0, σ)) else ((lfX1_areTwice_17 K k).2 v1 v2 v3 v1 σ) : Option (Int32 × pM)) = some res := hf
      refine lv_iload_n hx hb dX1_areTwice_2 rfl (lv_at hl 3 rfl) ?_
      refine lv_iload_n hx hb dX1_areTwice_3 rfl (lv_at hl 1 rfl) ?_
      refine lv_iload_n hx hb dX1_areTwice_4 rfl (lv_at hl 2 rfl) ?_
      refine lv_iadd hx hb dX1_areTwice_5 ?_
      refine lv_icmp_ge (tgt := 42) hx hb dX1_areTwice_6 (by decide) (fun c6 => ?_) (fun c6 => ?_)
      · have hf := dz_t c6 hf
        refine lv_iconst (v := 0) hx hb dX1_areTwice_42 (by decide) ?_
        exact W.zret (v := 0) hx hb hr rfl (fun t ht hW => ⟨⟨0, σ, rfl, Option.some.inj hf, by rw [ht]; exact hP, va_K.moved hW.alike hK, hD⟩, hS.F ht⟩) hS.2.2 dX1_areTwice_43
      · have hf := dz_f c6 hf
        refine lv_iload_n hx hb dX1_areTwice_9 rfl (lv_at hl 1 rfl) ?_
        refine lv_istore (lv' := [(4, .int v1), (0, .ref (ad 17)), (1, .int v1), (2, .int v2), (3, .int v3)]) hx hb dX1_areTwice_10 hl (by decide) rfl (fun ls hl => ?_)
        exact ih.2 v1 v2 v3 v1 σ H locs hP hD hS ls (lv_sub hl [1, 2, 3, 4, 0] rfl) hf
    · intro v1 v2 v3 v4 σ H locs hP hD hS ls hl hf
      have hf : (if v3 ≤ v4 then (dz_l (v3 + 1) fun x1 => (lfX1_areTwice_17 K k).1 v1 v2 x1 σ) else (if ¬ (v3 < 0 ∨ 1044 ≤ Int32.toNatClampNeg v3) then (dz_l (σ.2.2.1 17 (Int32.toNatClampNeg v3)) fun x3 => if ¬ (v4 < 0 ∨ 1044 ≤ Int32.toNatClampNeg v4) then (dz_l (σ.2.2.1 17 (Int32.toNatClampNeg v4)) fun x5 => if x3 = x5 then (some (1, σ)) else (dz_l (v4 + 1) fun x6 => (lfX1_areTwice_17 K k).2 v1 v2 v3 x6 σ)) else none) else none) : Option (Int32 × pM)) = some res := hf
      refine lv_iload hx hb dX1_areTwice_12 (lv_at hl 4 rfl) ?_
      refine lv_iload_n hx hb dX1_areTwice_14 rfl (lv_at hl 3 rfl) ?_
      refine lv_icmp_ge (tgt := 36) hx hb dX1_areTwice_15 (by decide) (fun c15 => ?_) (fun c15 => ?_)
      · have hf := dz_t c15 hf
        obtain ⟨x1, e_x1, hf⟩ := dz_lo hf
        refine lv_iinc (v := x1) (lv' := [(3, .int x1), (0, .ref (ad 17)), (1, .int v1), (2, .int v2), (4, .int v4)]) hx hb dX1_areTwice_36 hl (k := 3) rfl (by rw [e_x1]; rfl) (by decide) rfl (fun ls hl => ?_)
        refine lv_goto (tgt := 2) hx hb dX1_areTwice_39 (by decide) ?_
        exact ih.1 v1 v2 x1 σ H locs hP hD hS ls (lv_sub hl [1, 2, 3, 0] rfl) hf
      · have hf := dz_f c15 hf
        refine lv_aload_n hx hb dX1_areTwice_18 rfl (lv_at hl 0 rfl) ?_
        refine lv_iload_n hx hb dX1_areTwice_19 rfl (lv_at hl 3 rfl) ?_
        obtain ⟨g2, hf⟩ := dz_go hf
        refine va_iald hx hb hK hP 15 0 rfl rfl g2 dX1_areTwice_20 ?_
        refine lv_topi (fun x3 e_x3 => ?_)
        have hf := dz_ls e_x3 hf
        refine lv_aload_n hx hb dX1_areTwice_21 rfl (lv_at hl 0 rfl) ?_
        refine lv_iload hx hb dX1_areTwice_22 (lv_at hl 4 rfl) ?_
        obtain ⟨g4, hf⟩ := dz_go hf
        refine va_iald hx hb hK hP 15 0 rfl rfl g4 dX1_areTwice_24 ?_
        refine lv_topi (fun x5 e_x5 => ?_)
        have hf := dz_ls e_x5 hf
        refine lv_icmp_ne (tgt := 30) hx hb dX1_areTwice_25 (by decide) (fun c25 => ?_) (fun c25 => ?_)
        · have hf := dz_f c25 hf
          obtain ⟨x6, e_x6, hf⟩ := dz_lo hf
          refine lv_iinc (v := x6) (lv' := [(4, .int x6), (0, .ref (ad 17)), (1, .int v1), (2, .int v2), (3, .int v3)]) hx hb dX1_areTwice_30 hl (k := 4) rfl (by rw [e_x6]; rfl) (by decide) rfl (fun ls hl => ?_)
          refine lv_goto (tgt := 12) hx hb dX1_areTwice_33 (by decide) ?_
          exact ih.2 v1 v2 v3 x6 σ H locs hP hD hS ls (lv_sub hl [1, 2, 3, 4, 0] rfl) hf
        · have hf := dz_t c25 hf
          refine lv_iconst (v := 1) hx hb dX1_areTwice_28 (by decide) ?_
          exact W.zret (v := 1) hx hb hr rfl (fun t ht hW => ⟨⟨1, σ, rfl, Option.some.inj hf, by rw [ht]; exact hP, va_K.moved hW.alike hK, hD⟩, hS.F ht⟩) hS.2.2 dX1_areTwice_29
set_option maxHeartbeats 4000000 in
set_option maxRecDepth 100000 in
theorem mtX1_areTwice_17 (l : Launch) (D : va_G) (cl : List vw_C) (ci : Nat) (hci : cl[ci]? = some (RX1, TX1, 35)) (h : Nat) (ad : Nat → Nat) (cA : Nat → ClassId) (sz : Nat) (σ : pM) (a0 : Int32) (a1 : Int32) (K : Nat) (res : (Int32 × pM)) (hf : fnX1_areTwice_17 K a0 a1 σ = some res) : Met l yX1_areTwice (ws_ yX1_areTwice cX1_areTwice 5 (some .boolean)) ({ frames := 0, cells := 0, slots := 0, locals := 0 }) (mPc D cl ci h ad cA sz σ [.ref (ad 17), .int a0, .int a1]) (mQi D cl ci h ad cA (va_A (mw ci h ad cA σ) sz) res) 0 0 (va_A (mw ci h ad cA σ) sz) := by
  refine Met.ofW (cc := cX1_areTwice) (maxL := 5) (ret := some .boolean) (by decide +kernel) rfl ?_
  intro p e s m args below meth c s₁ B hml hv
  obtain ⟨rfl, hsz, hP, hK, hD0⟩ := hv
  have hx := B.exec
  have hb := B.bytes
  have hr := B.returns
  have hts := atoms_spec (ws := ws_ yX1_areTwice cX1_areTwice 5 (some .boolean)) B.pre
  have hts : ∀ w ∈ lw_all, w.before _ s = true := fun w h => hts w (List.mem_cons_of_mem _ h)
  have hown : s.vm.findClass RX1 = some m.cls := findClass_of_methodNamed B.named
  have hlocks := B.notSynchronized
  subst hsz
  have hD := hD0.self (sz := s.heap.size)
  generalize hAe : va_A (mw ci h ad cA σ) s.heap.size = A at hD ⊢
  have hA : ∀ q : Nat, s.heap.size ≤ q → A q := fun q h => by rw [← hAe]; exact Or.inr h
  clear hAe hD0
  have hS : va_S A s.heap s.heap [] := va_S.rf
  generalize hHe : s.heap = H at hP hS ⊢
  have hS : va_S A s.heap H [] := by rw [hHe]; exact hS
  generalize ([] : List Loc) = locs at hS ⊢
  have hl := lv_entry ([.ref (ad 17), .int a0, .int a1]) (n := 5) (Nat.le_of_ble_eq_true rfl)
  rw [lg_entry_eq]
  generalize (lg_sl ([.ref (ad 17), .int a0, .int a1]) ++ List.replicate (5 - (lg_sl ([.ref (ad 17), .int a0, .int a1])).length) Slot.unset).toArray = ls at hl ⊢
  have hl : lv_has ls 5 [(0, .ref (ad 17)), (1, .int a0), (2, .int a1)] := hl
  have hf : ((lfX1_areTwice_17 K K).1 a0 a1 a0 σ : Option (Int32 × pM)) = some res := hf
  have ih := wlX1_areTwice_17 (l := l) (e := e) (below := below) (h := h) (ad := ad) (cA := cA) hci hA hK K res a0 a1 hx hb hr hlocks hml hown hts K
  refine lv_iload_n hx hb dX1_areTwice_0 rfl (lv_at hl 1 rfl) ?_
  refine lv_istore_n (lv' := [(3, .int a0), (0, .ref (ad 17)), (1, .int a0), (2, .int a1)]) hx hb dX1_areTwice_1 rfl hl (by decide) rfl (fun ls hl => ?_)
  exact ih.1 a0 a1 a0 σ H locs hP hD hS ls (lv_sub hl [1, 2, 3, 0] rfl) hf

noncomputable def lfX1_hasAll_14 (K : Nat) : Nat → (Int32 → Int32 → Int32 → Int32 → pM → Option (Int32 × pM)) := Nat.rec (motive := fun _ => (Int32 → Int32 → Int32 → Int32 → pM → Option (Int32 × pM))) (fun _ _ _ _ _ => none) (fun _ G => (fun v2 v3 v4 v5 σ => if (v2 + v3) ≤ v5 then (some (1, σ)) else (if ¬ (v5 < 0 ∨ 1044 ≤ Int32.toNatClampNeg v5) then (dz_l (σ.2.2.1 14 (Int32.toNatClampNeg v5)) fun x2 => dz_c (fnX1_lineFor K x2 v4 σ) fun x3 s4 => if x3 = (-1 : Int32) then (some (0, s4)) else (dz_l (v5 + 1) fun x5 => G v2 v3 v4 x5 s4)) else none)))
noncomputable def fnX1_hasAll_14 (K : Nat) (a0 : Int32) (a1 : Int32) (a2 : Int32) (σ : pM) : Option (Int32 × pM) := (lfX1_hasAll_14 K K) a0 a1 a2 a0 σ
set_option maxHeartbeats 4000000 in
set_option maxRecDepth 100000 in
theorem wlX1_hasAll_14 {p : Program} {l : Launch} {e : Env} {s : State} {m : MethodId} {below : List Frame} {meth : Method} {c : Code} {D : va_G} {cl : List vw_C} {ci : Nat} (hci : cl[ci]? = some (RX1, TX1, 35)) {h : Nat} {ad : Nat → Nat} {cA : Nat → ClassId} {A : Nat → Prop} (hA : ∀ q : Nat, s.heap.size ≤ q → A q) (hK : va_K D cl (mtys cA) s) (K : Nat) (res : (Int32 × pM)) (a0 : Int32) (a1 : Int32) (a2 : Int32) (hx : p.tables.exec = Jvm.exec) (hb : c.code = cX1_hasAll) (hr : meth.sig.returnType = some .boolean) (hlocks : meth.locks = false) (hml : c.maxLocals = 6) (hown : s.vm.findClass RX1 = some m.cls) (hts : ∀ w ∈ lw_all, w.before ([.ref h, .ref (ad 14), .int a0, .int a1, .int a2] : List Value).toArray s = true) : ∀ k : Nat, (∀ (v2 : Int32) (v3 : Int32) (v4 : Int32) (v5 : Int32) (σ : pM) (H : Heap) (locs : List Loc), va_P D cl (mw ci h ad cA σ) H → va_D A (mw ci h ad cA σ) → va_S A s.heap H locs → ∀ (ls : Array Slot), lv_has ls 6 [(0, .ref h), (1, .ref (ad 14)), (2, .int v2), (3, .int v3), (4, .int v4), (5, .int v5)] → (lfX1_hasAll_14 K k) v2 v3 v4 v5 σ = some res → W p l e (headSpec (ws_ yX1_hasAll cX1_hasAll 6 (some .boolean)) ({ frames := 1, cells := 0, slots := 0, locals := 23 })).room s m ([.ref h, .ref (ad 14), .int a0, .int a1, .int a2] : List Value).toArray below meth c H locs 0 0 (MQ below (mQi D cl ci h ad cA A res) ([.ref h, .ref (ad 14), .int a0, .int a1, .int a2] : List Value).toArray s 0 0 A) (F0 m 3 ls [])) := by
  intro k
  induction k with
  | zero =>
    exact fun _ _ _ _ _ _ _ _ _ _ _ _ hf => (by cases hf)
  | succ k ih =>
    · intro v2 v3 v4 v5 σ H locs hP hD hS ls hl hf
      have hf : (if (v2 + v3) ≤ v5 then (some (1, σ)) else (if ¬ (v5 < 0 ∨ 1044 ≤ Int32.toNatClampNeg v5) then (dz_l (σ.2.2.1 14 (Int32.toNatClampNeg v5)) fun x2 => dz_c (fnX1_lineFor K x2 v4 σ) fun x3 s4 => if x3 = (-1 : Int32) then (some (0, s4)) else (dz_l (v5 + 1) fun x5 => (lfX1_hasAll_14 K k) v2 v3 v4 x5 s4)) else none) : Option (Int32 × pM)) = some res := hf
      refine lv_iload hx hb dX1_hasAll_3 (lv_at hl 5 rfl) ?_
      refine lv_iload_n hx hb dX1_hasAll_5 rfl (lv_at hl 2 rfl) ?_
      refine lv_iload_n hx hb dX1_hasAll_6 rfl (lv_at hl 3 rfl) ?_
      refine lv_iadd hx hb dX1_hasAll_7 ?_
      refine lv_icmp_ge (tgt := 33) hx hb dX1_hasAll_8 (by decide) (fun c8 => ?_) (fun c8 => ?_)
      · have hf := dz_t c8 hf
        refine lv_iconst (v := 1) hx hb dX1_hasAll_33 (by decide) ?_
        exact W.zret (v := 1) hx hb hr rfl (fun t ht hW => ⟨⟨1, σ, rfl, Option.some.inj hf, by rw [ht]; exact hP, va_K.moved hW.alike hK, hD⟩, hS.F ht⟩) hS.2.2 dX1_hasAll_34
      · have hf := dz_f c8 hf
        refine lv_aload_n hx hb dX1_hasAll_11 rfl (lv_at hl 0 rfl) ?_
        refine lv_aload_n hx hb dX1_hasAll_12 rfl (lv_at hl 1 rfl) ?_
        refine lv_iload hx hb dX1_hasAll_13 (lv_at hl 5 rfl) ?_
        obtain ⟨g1, hf⟩ := dz_go hf
        refine va_iald hx hb hK hP 12 0 rfl rfl g1 dX1_hasAll_15 ?_
        refine lv_topi (fun x2 e_x2 => ?_)
        have hf := dz_ls e_x2 hf
        refine lv_iload hx hb dX1_hasAll_16 (lv_at hl 4 rfl) ?_
        obtain ⟨x3, s4, hx3, hf⟩ := dz_co hf
        have hFc := dz_free hD hS hA
        refine va_calli (va_runV (As := [.int x2, .int v4]) (rest := []) ⟨hx, hb, hml, hown, hts⟩ (mtX1_lineFor l D cl ci hci h ad cA H.size σ x2 v4 K (x3, s4) hx3) (cwV 2 hts (lw_V q1809 q1811 qs39 q88 q1812) rfl rfl rfl (by decide +kernel) ⟨Nat.le_of_ble_eq_true rfl, Nat.le_of_ble_eq_true rfl⟩) (m_preV hci hK hP hD) rfl rfl hl.1 rfl (lv_room (Nat.le_of_ble_eq_true rfl)) dX1_hasAll_18 ⟨Nat.le_refl _, Nat.le_refl _⟩) hS (fun q _ hq => hFc q hq) hFc (fun r u t H1 locs ht hvm hw hB hz hk hS => ?_)
        obtain ⟨hw1, hw2⟩ := Prod.mk.inj hw.symm; subst hw1; subst hw2
        replace hP := m_back ht hB
        replace hD := mw_D s4 hD
        clear hB hk hz hvm ht hFc; generalize H1 = H at hP hS ⊢
        refine lv_iconst (v := (-1)) hx hb dX1_hasAll_21 (by decide) ?_
        refine lv_icmp_ne (tgt := 27) hx hb dX1_hasAll_22 (by decide) (fun c22 => ?_) (fun c22 => ?_)
        · have hf := dz_f c22 hf
          obtain ⟨x5, e_x5, hf⟩ := dz_lo hf
          refine lv_iinc (v := x5) (lv' := [(5, .int x5), (0, .ref h), (1, .ref (ad 14)), (2, .int v2), (3, .int v3), (4, .int v4)]) hx hb dX1_hasAll_27 hl (k := 5) rfl (by rw [e_x5]; rfl) (by decide) rfl (fun ls hl => ?_)
          refine lv_goto (tgt := 3) hx hb dX1_hasAll_30 (by decide) ?_
          exact ih v2 v3 v4 x5 s4 H locs hP hD hS ls (lv_sub hl [1, 2, 3, 4, 5, 0] rfl) hf
        · have hf := dz_t c22 hf
          refine lv_iconst (v := 0) hx hb dX1_hasAll_25 (by decide) ?_
          exact W.zret (v := 0) hx hb hr rfl (fun t ht hW => ⟨⟨0, s4, rfl, Option.some.inj hf, by rw [ht]; exact hP, va_K.moved hW.alike hK, hD⟩, hS.F ht⟩) hS.2.2 dX1_hasAll_26
set_option maxHeartbeats 4000000 in
set_option maxRecDepth 100000 in
theorem mtX1_hasAll_14 (l : Launch) (D : va_G) (cl : List vw_C) (ci : Nat) (hci : cl[ci]? = some (RX1, TX1, 35)) (h : Nat) (ad : Nat → Nat) (cA : Nat → ClassId) (sz : Nat) (σ : pM) (a0 : Int32) (a1 : Int32) (a2 : Int32) (K : Nat) (res : (Int32 × pM)) (hf : fnX1_hasAll_14 K a0 a1 a2 σ = some res) : Met l yX1_hasAll (ws_ yX1_hasAll cX1_hasAll 6 (some .boolean)) ({ frames := 1, cells := 0, slots := 0, locals := 23 }) (mPc D cl ci h ad cA sz σ [.ref h, .ref (ad 14), .int a0, .int a1, .int a2]) (mQi D cl ci h ad cA (va_A (mw ci h ad cA σ) sz) res) 0 0 (va_A (mw ci h ad cA σ) sz) := by
  refine Met.ofW (cc := cX1_hasAll) (maxL := 6) (ret := some .boolean) (by decide +kernel) rfl ?_
  intro p e s m args below meth c s₁ B hml hv
  obtain ⟨rfl, hsz, hP, hK, hD0⟩ := hv
  have hx := B.exec
  have hb := B.bytes
  have hr := B.returns
  have hts := atoms_spec (ws := ws_ yX1_hasAll cX1_hasAll 6 (some .boolean)) B.pre
  have hts : ∀ w ∈ lw_all, w.before _ s = true := fun w h => hts w (List.mem_cons_of_mem _ h)
  have hown : s.vm.findClass RX1 = some m.cls := findClass_of_methodNamed B.named
  have hlocks := B.notSynchronized
  subst hsz
  have hD := hD0.self (sz := s.heap.size)
  generalize hAe : va_A (mw ci h ad cA σ) s.heap.size = A at hD ⊢
  have hA : ∀ q : Nat, s.heap.size ≤ q → A q := fun q h => by rw [← hAe]; exact Or.inr h
  clear hAe hD0
  have hS : va_S A s.heap s.heap [] := va_S.rf
  generalize hHe : s.heap = H at hP hS ⊢
  have hS : va_S A s.heap H [] := by rw [hHe]; exact hS
  generalize ([] : List Loc) = locs at hS ⊢
  have hl := lv_entry ([.ref h, .ref (ad 14), .int a0, .int a1, .int a2]) (n := 6) (Nat.le_of_ble_eq_true rfl)
  rw [lg_entry_eq]
  generalize (lg_sl ([.ref h, .ref (ad 14), .int a0, .int a1, .int a2]) ++ List.replicate (6 - (lg_sl ([.ref h, .ref (ad 14), .int a0, .int a1, .int a2])).length) Slot.unset).toArray = ls at hl ⊢
  have hl : lv_has ls 6 [(0, .ref h), (1, .ref (ad 14)), (2, .int a0), (3, .int a1), (4, .int a2)] := hl
  have hf : ((lfX1_hasAll_14 K K) a0 a1 a2 a0 σ : Option (Int32 × pM)) = some res := hf
  have ih := wlX1_hasAll_14 (l := l) (e := e) (below := below) (h := h) (ad := ad) (cA := cA) hci hA hK K res a0 a1 a2 hx hb hr hlocks hml hown hts K
  refine lv_iload_n hx hb dX1_hasAll_0 rfl (lv_at hl 2 rfl) ?_
  refine lv_istore (lv' := [(5, .int a0), (0, .ref h), (1, .ref (ad 14)), (2, .int a0), (3, .int a1), (4, .int a2)]) hx hb dX1_hasAll_1 hl (by decide) rfl (fun ls hl => ?_)
  exact ih a0 a1 a2 a0 σ H locs hP hD hS ls (lv_sub hl [1, 2, 3, 4, 5, 0] rfl) hf

noncomputable def lfX1_hasAll_17 (K : Nat) : Nat → (Int32 → Int32 → Int32 → Int32 → pM → Option (Int32 × pM)) := Nat.rec (motive := fun _ => (Int32 → Int32 → Int32 → Int32 → pM → Option (Int32 × pM))) (fun _ _ _ _ _ => none) (fun _ G => (fun v2 v3 v4 v5 σ => if (v2 + v3) ≤ v5 then (some (1, σ)) else (if ¬ (v5 < 0 ∨ 1044 ≤ Int32.toNatClampNeg v5) then (dz_l (σ.2.2.1 17 (Int32.toNatClampNeg v5)) fun x2 => dz_c (fnX1_lineFor K x2 v4 σ) fun x3 s4 => if x3 = (-1 : Int32) then (some (0, s4)) else (dz_l (v5 + 1) fun x5 => G v2 v3 v4 x5 s4)) else none)))
noncomputable def fnX1_hasAll_17 (K : Nat) (a0 : Int32) (a1 : Int32) (a2 : Int32) (σ : pM) : Option (Int32 × pM) := (lfX1_hasAll_17 K K) a0 a1 a2 a0 σ
set_option maxHeartbeats 4000000 in
set_option maxRecDepth 100000 in
theorem wlX1_hasAll_17 {p : Program} {l : Launch} {e : Env} {s : State} {m : MethodId} {below : List Frame} {meth : Method} {c : Code} {D : va_G} {cl : List vw_C} {ci : Nat} (hci : cl[ci]? = some (RX1, TX1, 35)) {h : Nat} {ad : Nat → Nat} {cA : Nat → ClassId} {A : Nat → Prop} (hA : ∀ q : Nat, s.heap.size ≤ q → A q) (hK : va_K D cl (mtys cA) s) (K : Nat) (res : (Int32 × pM)) (a0 : Int32) (a1 : Int32) (a2 : Int32) (hx : p.tables.exec = Jvm.exec) (hb : c.code = cX1_hasAll) (hr : meth.sig.returnType = some .boolean) (hlocks : meth.locks = false) (hml : c.maxLocals = 6) (hown : s.vm.findClass RX1 = some m.cls) (hts : ∀ w ∈ lw_all, w.before ([.ref h, .ref (ad 17), .int a0, .int a1, .int a2] : List Value).toArray s = true) : ∀ k : Nat, (∀ (v2 : Int32) (v3 : Int32) (v4 : Int32) (v5 : Int32) (σ : pM) (H : Heap) (locs : List Loc), va_P D cl (mw ci h ad cA σ) H → va_D A (mw ci h ad cA σ) → va_S A s.heap H locs → ∀ (ls : Array Slot), lv_has ls 6 [(0, .ref h), (1, .ref (ad 17)), (2, .int v2), (3, .int v3), (4, .int v4), (5, .int v5)] → (lfX1_hasAll_17 K k) v2 v3 v4 v5 σ = some res → W p l e (headSpec (ws_ yX1_hasAll cX1_hasAll 6 (some .boolean)) ({ frames := 1, cells := 0, slots := 0, locals := 23 })).room s m ([.ref h, .ref (ad 17), .int a0, .int a1, .int a2] : List Value).toArray below meth c H locs 0 0 (MQ below (mQi D cl ci h ad cA A res) ([.ref h, .ref (ad 17), .int a0, .int a1, .int a2] : List Value).toArray s 0 0 A) (F0 m 3 ls [])) := by
  intro k
  induction k with
  | zero =>
    exact fun _ _ _ _ _ _ _ _ _ _ _ _ hf => (by cases hf)
  | succ k ih =>
    · intro v2 v3 v4 v5 σ H locs hP hD hS ls hl hf
      have hf : (if (v2 + v3) ≤ v5 then (some (1, σ)) else (if ¬ (v5 < 0 ∨ 1044 ≤ Int32.toNatClampNeg v5) then (dz_l (σ.2.2.1 17 (Int32.toNatClampNeg v5)) fun x2 => dz_c (fnX1_lineFor K x2 v4 σ) fun x3 s4 => if x3 = (-1 : Int32) then (some (0, s4)) else (dz_l (v5 + 1) fun x5 => (lfX1_hasAll_17 K k) v2 v3 v4 x5 s4)) else none) : Option (Int32 × pM)) = some res := hf
      refine lv_iload hx hb dX1_hasAll_3 (lv_at hl 5 rfl) ?_
      refine lv_iload_n hx hb dX1_hasAll_5 rfl (lv_at hl 2 rfl) ?_
      refine lv_iload_n hx hb dX1_hasAll_6 rfl (lv_at hl 3 rfl) ?_
      refine lv_iadd hx hb dX1_hasAll_7 ?_
      refine lv_icmp_ge (tgt := 33) hx hb dX1_hasAll_8 (by decide) (fun c8 => ?_) (fun c8 => ?_)
      · have hf := dz_t c8 hf
        refine lv_iconst (v := 1) hx hb dX1_hasAll_33 (by decide) ?_
        exact W.zret (v := 1) hx hb hr rfl (fun t ht hW => ⟨⟨1, σ, rfl, Option.some.inj hf, by rw [ht]; exact hP, va_K.moved hW.alike hK, hD⟩, hS.F ht⟩) hS.2.2 dX1_hasAll_34
      · have hf := dz_f c8 hf
        refine lv_aload_n hx hb dX1_hasAll_11 rfl (lv_at hl 0 rfl) ?_
        refine lv_aload_n hx hb dX1_hasAll_12 rfl (lv_at hl 1 rfl) ?_
        refine lv_iload hx hb dX1_hasAll_13 (lv_at hl 5 rfl) ?_
        obtain ⟨g1, hf⟩ := dz_go hf
        refine va_iald hx hb hK hP 15 0 rfl rfl g1 dX1_hasAll_15 ?_
        refine lv_topi (fun x2 e_x2 => ?_)
        have hf := dz_ls e_x2 hf
        refine lv_iload hx hb dX1_hasAll_16 (lv_at hl 4 rfl) ?_
        obtain ⟨x3, s4, hx3, hf⟩ := dz_co hf
        have hFc := dz_free hD hS hA
        refine va_calli (va_runV (As := [.int x2, .int v4]) (rest := []) ⟨hx, hb, hml, hown, hts⟩ (mtX1_lineFor l D cl ci hci h ad cA H.size σ x2 v4 K (x3, s4) hx3) (cwV 2 hts (lw_V q1809 q1811 qs39 q88 q1812) rfl rfl rfl (by decide +kernel) ⟨Nat.le_of_ble_eq_true rfl, Nat.le_of_ble_eq_true rfl⟩) (m_preV hci hK hP hD) rfl rfl hl.1 rfl (lv_room (Nat.le_of_ble_eq_true rfl)) dX1_hasAll_18 ⟨Nat.le_refl _, Nat.le_refl _⟩) hS (fun q _ hq => hFc q hq) hFc (fun r u t H1 locs ht hvm hw hB hz hk hS => ?_)
        obtain ⟨hw1, hw2⟩ := Prod.mk.inj hw.symm; subst hw1; subst hw2
        replace hP := m_back ht hB
        replace hD := mw_D s4 hD
        clear hB hk hz hvm ht hFc; generalize H1 = H at hP hS ⊢
        refine lv_iconst (v := (-1)) hx hb dX1_hasAll_21 (by decide) ?_
        refine lv_icmp_ne (tgt := 27) hx hb dX1_hasAll_22 (by decide) (fun c22 => ?_) (fun c22 => ?_)
        · have hf := dz_f c22 hf
          obtain ⟨x5, e_x5, hf⟩ := dz_lo hf
          refine lv_iinc (v := x5) (lv' := [(5, .int x5), (0, .ref h), (1, .ref (ad 17)), (2, .int v2), (3, .int v3), (4, .int v4)]) hx hb dX1_hasAll_27 hl (k := 5) rfl (by rw [e_x5]; rfl) (by decide) rfl (fun ls hl => ?_)
          refine lv_goto (tgt := 3) hx hb dX1_hasAll_30 (by decide) ?_
          exact ih v2 v3 v4 x5 s4 H locs hP hD hS ls (lv_sub hl [1, 2, 3, 4, 5, 0] rfl) hf
        · have hf := dz_t c22 hf
          refine lv_iconst (v := 0) hx hb dX1_hasAll_25 (by decide) ?_
          exact W.zret (v := 0) hx hb hr rfl (fun t ht hW => ⟨⟨0, s4, rfl, Option.some.inj hf, by rw [ht]; exact hP, va_K.moved hW.alike hK, hD⟩, hS.F ht⟩) hS.2.2 dX1_hasAll_26
set_option maxHeartbeats 4000000 in
set_option maxRecDepth 100000 in
theorem mtX1_hasAll_17 (l : Launch) (D : va_G) (cl : List vw_C) (ci : Nat) (hci : cl[ci]? = some (RX1, TX1, 35)) (h : Nat) (ad : Nat → Nat) (cA : Nat → ClassId) (sz : Nat) (σ : pM) (a0 : Int32) (a1 : Int32) (a2 : Int32) (K : Nat) (res : (Int32 × pM)) (hf : fnX1_hasAll_17 K a0 a1 a2 σ = some res) : Met l yX1_hasAll (ws_ yX1_hasAll cX1_hasAll 6 (some .boolean)) ({ frames := 1, cells := 0, slots := 0, locals := 23 }) (mPc D cl ci h ad cA sz σ [.ref h, .ref (ad 17), .int a0, .int a1, .int a2]) (mQi D cl ci h ad cA (va_A (mw ci h ad cA σ) sz) res) 0 0 (va_A (mw ci h ad cA σ) sz) := by
  refine Met.ofW (cc := cX1_hasAll) (maxL := 6) (ret := some .boolean) (by decide +kernel) rfl ?_
  intro p e s m args below meth c s₁ B hml hv
  obtain ⟨rfl, hsz, hP, hK, hD0⟩ := hv
  have hx := B.exec
  have hb := B.bytes
  have hr := B.returns
  have hts := atoms_spec (ws := ws_ yX1_hasAll cX1_hasAll 6 (some .boolean)) B.pre
  have hts : ∀ w ∈ lw_all, w.before _ s = true := fun w h => hts w (List.mem_cons_of_mem _ h)
  have hown : s.vm.findClass RX1 = some m.cls := findClass_of_methodNamed B.named
  have hlocks := B.notSynchronized
  subst hsz
  have hD := hD0.self (sz := s.heap.size)
  generalize hAe : va_A (mw ci h ad cA σ) s.heap.size = A at hD ⊢
  have hA : ∀ q : Nat, s.heap.size ≤ q → A q := fun q h => by rw [← hAe]; exact Or.inr h
  clear hAe hD0
  have hS : va_S A s.heap s.heap [] := va_S.rf
  generalize hHe : s.heap = H at hP hS ⊢
  have hS : va_S A s.heap H [] := by rw [hHe]; exact hS
  generalize ([] : List Loc) = locs at hS ⊢
  have hl := lv_entry ([.ref h, .ref (ad 17), .int a0, .int a1, .int a2]) (n := 6) (Nat.le_of_ble_eq_true rfl)
  rw [lg_entry_eq]
  generalize (lg_sl ([.ref h, .ref (ad 17), .int a0, .int a1, .int a2]) ++ List.replicate (6 - (lg_sl ([.ref h, .ref (ad 17), .int a0, .int a1, .int a2])).length) Slot.unset).toArray = ls at hl ⊢
  have hl : lv_has ls 6 [(0, .ref h), (1, .ref (ad 17)), (2, .int a0), (3, .int a1), (4, .int a2)] := hl
  have hf : ((lfX1_hasAll_17 K K) a0 a1 a2 a0 σ : Option (Int32 × pM)) = some res := hf
  have ih := wlX1_hasAll_17 (l := l) (e := e) (below := below) (h := h) (ad := ad) (cA := cA) hci hA hK K res a0 a1 a2 hx hb hr hlocks hml hown hts K
  refine lv_iload_n hx hb dX1_hasAll_0 rfl (lv_at hl 2 rfl) ?_
  refine lv_istore (lv' := [(5, .int a0), (0, .ref h), (1, .ref (ad 17)), (2, .int a0), (3, .int a1), (4, .int a2)]) hx hb dX1_hasAll_1 hl (by decide) rfl (fun ls hl => ?_)
  exact ih a0 a1 a2 a0 σ H locs hP hD hS ls (lv_sub hl [1, 2, 3, 4, 5, 0] rfl) hf

noncomputable def fnX1_isFit (K : Nat) (a0 : Int32) (σ : pM) : Option (Int32 × pM) := if ¬ (a0 < 0 ∨ 116 ≤ Int32.toNatClampNeg a0) then (dz_l (σ.2.2.1 8 (Int32.toNatClampNeg a0)) fun x2 => dz_l (Int32.toInt64 x2) fun x3 => dz_c (fnX1_below K a0 σ) fun x4 s5 => dz_c (fnX1_above K a0 s5) fun x6 s7 => if ¬ (a0 < 0 ∨ 116 ≤ Int32.toNatClampNeg a0) then (dz_l (s7.2.2.1 9 (Int32.toNatClampNeg a0)) fun x9 => if x9 = (1 : Int32) then (if x4 = (x3 - 1) then (some (1, s7)) else (some (0, s7))) else (if x9 = (2 : Int32) then (if ¬ x4 = 0 then (dz_l ((x3 - 1) - (x3 - 1) / x4 * x4) fun x11 => if x11 = (0 : Int64) then (some (1, s7)) else (some (0, s7))) else none) else (if x9 = (3 : Int32) then (if x6 = (x3 + 1) then (some (1, s7)) else (some (0, s7))) else (if ¬ x4 = 0 then (dz_l ((x3 - 1) - (x3 - 1) / x4 * x4) fun x13 => if x13 = (0 : Int64) then (if ¬ x6 = 0 then (dz_l ((x3 + 1) - (x3 + 1) / x6 * x6) fun x15 => if x15 = (0 : Int64) then (some (1, s7)) else (some (0, s7))) else none) else (some (0, s7))) else none)))) else none) else none
set_option maxHeartbeats 4000000 in
set_option maxRecDepth 100000 in
theorem mtX1_isFit (l : Launch) (D : va_G) (cl : List vw_C) (ci : Nat) (hci : cl[ci]? = some (RX1, TX1, 35)) (h : Nat) (ad : Nat → Nat) (cA : Nat → ClassId) (sz : Nat) (σ : pM) (a0 : Int32) (K : Nat) (res : (Int32 × pM)) (hf : fnX1_isFit K a0 σ = some res) : Met l yX1_isFit (ws_ yX1_isFit cX1_isFit 8 (some .boolean)) ({ frames := 2, cells := 0, slots := 0, locals := 49 }) (mPc D cl ci h ad cA sz σ [.ref h, .int a0]) (mQi D cl ci h ad cA (va_A (mw ci h ad cA σ) sz) res) 0 0 (va_A (mw ci h ad cA σ) sz) := by
  refine Met.ofW (cc := cX1_isFit) (maxL := 8) (ret := some .boolean) (by decide +kernel) rfl ?_
  intro p e s m args below meth c s₁ B hml hv
  obtain ⟨rfl, hsz, hP, hK, hD0⟩ := hv
  have hx := B.exec
  have hb := B.bytes
  have hr := B.returns
  have hts := atoms_spec (ws := ws_ yX1_isFit cX1_isFit 8 (some .boolean)) B.pre
  have hts : ∀ w ∈ lw_all, w.before _ s = true := fun w h => hts w (List.mem_cons_of_mem _ h)
  have hown : s.vm.findClass RX1 = some m.cls := findClass_of_methodNamed B.named
  have hlocks := B.notSynchronized
  subst hsz
  have hD := hD0.self (sz := s.heap.size)
  generalize hAe : va_A (mw ci h ad cA σ) s.heap.size = A at hD ⊢
  have hA : ∀ q : Nat, s.heap.size ≤ q → A q := fun q h => by rw [← hAe]; exact Or.inr h
  clear hAe hD0
  have hS : va_S A s.heap s.heap [] := va_S.rf
  generalize hHe : s.heap = H at hP hS ⊢
  have hS : va_S A s.heap H [] := by rw [hHe]; exact hS
  generalize ([] : List Loc) = locs at hS ⊢
  have hl := lv_entry ([.ref h, .int a0]) (n := 8) (Nat.le_of_ble_eq_true rfl)
  rw [lg_entry_eq]
  generalize (lg_sl ([.ref h, .int a0]) ++ List.replicate (8 - (lg_sl ([.ref h, .int a0])).length) Slot.unset).toArray = ls at hl ⊢
  have hl : lv_has ls 8 [(0, .ref h), (1, .int a0)] := hl
  have hf : (if ¬ (a0 < 0 ∨ 116 ≤ Int32.toNatClampNeg a0) then (dz_l (σ.2.2.1 8 (Int32.toNatClampNeg a0)) fun x2 => dz_l (Int32.toInt64 x2) fun x3 => dz_c (fnX1_below K a0 σ) fun x4 s5 => dz_c (fnX1_above K a0 s5) fun x6 s7 => if ¬ (a0 < 0 ∨ 116 ≤ Int32.toNatClampNeg a0) then (dz_l (s7.2.2.1 9 (Int32.toNatClampNeg a0)) fun x9 => if x9 = (1 : Int32) then (if x4 = (x3 - 1) then (some (1, s7)) else (some (0, s7))) else (if x9 = (2 : Int32) then (if ¬ x4 = 0 then (dz_l ((x3 - 1) - (x3 - 1) / x4 * x4) fun x11 => if x11 = (0 : Int64) then (some (1, s7)) else (some (0, s7))) else none) else (if x9 = (3 : Int32) then (if x6 = (x3 + 1) then (some (1, s7)) else (some (0, s7))) else (if ¬ x4 = 0 then (dz_l ((x3 - 1) - (x3 - 1) / x4 * x4) fun x13 => if x13 = (0 : Int64) then (if ¬ x6 = 0 then (dz_l ((x3 + 1) - (x3 + 1) / x6 * x6) fun x15 => if x15 = (0 : Int64) then (some (1, s7)) else (some (0, s7))) else none) else (some (0, s7))) else none)))) else none) else none : Option (Int32 × pM)) = some res := hf
  refine lv_aload_n hx hb dX1_isFit_0 rfl (lv_at hl 0 rfl) ?_
  refine va_get (C := RX1) (T := TX1) (N := 35) (fs := mwF ad σ) (v := .ref (ad 8)) hx hb hts in_X1 hown hK hP 0 rfl hci 8 (by decide) (hts _ q1679) (fun _ hq => hq) rfl dX1_isFit_1 ?_
  refine lv_iload_n hx hb dX1_isFit_4 rfl (lv_at hl 1 rfl) ?_
  obtain ⟨g1, hf⟩ := dz_go hf
  refine va_iald hx hb hK hP 6 0 rfl rfl g1 dX1_isFit_5 ?_
  refine lv_topi (fun x2 e_x2 => ?_)
  have hf := dz_ls e_x2 hf
  refine lv_i2l hx hb dX1_isFit_6 (rfl : _ = Int32.toInt64 x2) ?_
  refine lv_topl (fun x3 e_x3 => ?_)
  have hf := dz_ls e_x3 hf
  refine lv_lstore_n (lv' := [(2, .long x3), (0, .ref h), (1, .int a0)]) hx hb dX1_isFit_7 rfl hl (by decide) rfl (fun ls hl => ?_)
  refine lv_aload_n hx hb dX1_isFit_8 rfl (lv_at hl 1 rfl) ?_
  refine lv_iload_n hx hb dX1_isFit_9 rfl (lv_at hl 2 rfl) ?_
  obtain ⟨x4, s5, hx4, hf⟩ := dz_co hf
  have hFc := dz_free hD hS hA
  refine va_calll (va_runV (As := [.int a0]) (rest := []) ⟨hx, hb, hml, hown, hts⟩ (mtX1_below l D cl ci hci h ad cA H.size σ a0 K (x4, s5) hx4) (cwV 1 hts (lw_V q1817 q1819 qs41 q88 q1820) rfl rfl rfl (by decide +kernel) ⟨Nat.le_of_ble_eq_true rfl, Nat.le_of_ble_eq_true rfl⟩) (m_preV hci hK hP hD) rfl rfl hl.1 rfl (lv_room (Nat.le_of_ble_eq_true rfl)) dX1_isFit_10 ⟨Nat.le_refl _, Nat.le_refl _⟩) hS (fun q _ hq => hFc q hq) hFc (fun r u t H1 locs ht hvm hw hB hz hk hS => ?_)
  obtain ⟨hw1, hw2⟩ := Prod.mk.inj hw.symm; subst hw1; subst hw2
  replace hP := m_back ht hB
  replace hD := mw_D s5 hD
  clear hB hk hz hvm ht hFc; generalize H1 = H at hP hS ⊢
  refine lv_lstore (lv' := [(4, .long x4), (2, .long x3), (0, .ref h), (1, .int a0)]) hx hb dX1_isFit_13 hl (by decide) rfl (fun ls hl => ?_)
  refine lv_aload_n hx hb dX1_isFit_15 rfl (lv_at hl 2 rfl) ?_
  refine lv_iload_n hx hb dX1_isFit_16 rfl (lv_at hl 3 rfl) ?_
  obtain ⟨x6, s7, hx6, hf⟩ := dz_co hf
  have hFc := dz_free hD hS hA
  refine va_calll (va_runV (As := [.int a0]) (rest := []) ⟨hx, hb, hml, hown, hts⟩ (mtX1_above l D cl ci hci h ad cA H.size s5 a0 K (x6, s7) hx6) (cwV 1 hts (lw_V q1826 q1828 qs43 q88 q1829) rfl rfl rfl (by decide +kernel) ⟨Nat.le_of_ble_eq_true rfl, Nat.le_of_ble_eq_true rfl⟩) (m_preV hci hK hP hD) rfl rfl hl.1 rfl (lv_room (Nat.le_of_ble_eq_true rfl)) dX1_isFit_17 ⟨Nat.le_refl _, Nat.le_refl _⟩) hS (fun q _ hq => hFc q hq) hFc (fun r u t H1 locs ht hvm hw hB hz hk hS => ?_)
  obtain ⟨hw1, hw2⟩ := Prod.mk.inj hw.symm; subst hw1; subst hw2
  replace hP := m_back ht hB
  replace hD := mw_D s7 hD
  clear hB hk hz hvm ht hFc; generalize H1 = H at hP hS ⊢
  refine lv_lstore (lv' := [(6, .long x6), (4, .long x4), (2, .long x3), (0, .ref h), (1, .int a0)]) hx hb dX1_isFit_20 hl (by decide) rfl (fun ls hl => ?_)
  refine lv_aload_n hx hb dX1_isFit_22 rfl (lv_at hl 3 rfl) ?_
  refine va_get (C := RX1) (T := TX1) (N := 35) (fs := mwF ad s7) (v := .ref (ad 9)) hx hb hts in_X1 hown hK hP 0 rfl hci 9 (by decide) (hts _ q1680) (fun _ hq => hq) rfl dX1_isFit_23 ?_
  refine lv_iload_n hx hb dX1_isFit_26 rfl (lv_at hl 4 rfl) ?_
  obtain ⟨g8, hf⟩ := dz_go hf
  refine va_iald hx hb hK hP 7 0 rfl rfl g8 dX1_isFit_27 ?_
  refine lv_topi (fun x9 e_x9 => ?_)
  have hf := dz_ls e_x9 hf
  refine dz_case hf (fun t28_1 hf => ?_) (fun t28_1 hf => ?_)
  · refine lv_tableIn (off := 28) (tgt := 56) hx hb dX1_isFit_28 (by rw [t28_1]; decide) (by rw [t28_1]; decide) (by rw [t28_1]; rfl) (by decide) ?_
    refine lv_lload hx hb dX1_isFit_56 (lv_at hl 1 rfl) ?_
    refine lv_lload_n hx hb dX1_isFit_58 rfl (lv_at hl 2 rfl) ?_
    refine lv_lconst (v := 1) hx hb dX1_isFit_59 rfl ?_
    refine lv_lsub hx hb dX1_isFit_60 ?_
    refine W.lcmp hx hb dX1_isFit_61 ?_
    refine lv_if_ne (tgt := 69) hx hb dX1_isFit_62 (by decide) (fun c62 => ?_) (fun c62 => ?_)
    · have c62 : ¬ x4 = (x3 - 1) := fun hq => c62 ((lg_cmp_eq _ _).mpr hq)
      have hf := dz_f c62 hf
      refine lv_iconst (v := 0) hx hb dX1_isFit_69 (by decide) ?_
      exact W.zret (v := 0) hx hb hr rfl (fun t ht hW => ⟨⟨0, s7, rfl, Option.some.inj hf, by rw [ht]; exact hP, va_K.moved hW.alike hK, hD⟩, hS.F ht⟩) hS.2.2 dX1_isFit_70
    · have c62 : x4 = (x3 - 1) := (lg_cmp_eq _ _).mp c62
      have hf := dz_t c62 hf
      refine lv_iconst (v := 1) hx hb dX1_isFit_65 (by decide) ?_
      refine lv_goto (tgt := 70) hx hb dX1_isFit_66 (by decide) ?_
      exact W.zret (v := 1) hx hb hr rfl (fun t ht hW => ⟨⟨1, s7, rfl, Option.some.inj hf, by rw [ht]; exact hP, va_K.moved hW.alike hK, hD⟩, hS.F ht⟩) hS.2.2 dX1_isFit_70
  · skip
    refine dz_case hf (fun t28_2 hf => ?_) (fun t28_2 hf => ?_)
    · refine lv_tableIn (off := 43) (tgt := 71) hx hb dX1_isFit_28 (by rw [t28_2]; decide) (by rw [t28_2]; decide) (by rw [t28_2]; rfl) (by decide) ?_
      refine lv_lload_n hx hb dX1_isFit_71 rfl (lv_at hl 2 rfl) ?_
      refine lv_lconst (v := 1) hx hb dX1_isFit_72 rfl ?_
      refine lv_lsub hx hb dX1_isFit_73 ?_
      refine lv_lload hx hb dX1_isFit_74 (lv_at hl 1 rfl) ?_
      obtain ⟨g10, hf⟩ := dz_go hf
      refine lv_lrem hx hb dX1_isFit_76 g10 ?_
      refine lv_topl (fun x11 e_x11 => ?_)
      have hf := dz_ls e_x11 hf
      refine lv_lconst (v := 0) hx hb dX1_isFit_77 rfl ?_
      refine W.lcmp hx hb dX1_isFit_78 ?_
      refine lv_if_ne (tgt := 86) hx hb dX1_isFit_79 (by decide) (fun c79 => ?_) (fun c79 => ?_)
      · have c79 : ¬ x11 = (0 : Int64) := fun hq => c79 ((lg_cmp_eq _ _).mpr hq)
        have hf := dz_f c79 hf
        refine lv_iconst (v := 0) hx hb dX1_isFit_86 (by decide) ?_
        exact W.zret (v := 0) hx hb hr rfl (fun t ht hW => ⟨⟨0, s7, rfl, Option.some.inj hf, by rw [ht]; exact hP, va_K.moved hW.alike hK, hD⟩, hS.F ht⟩) hS.2.2 dX1_isFit_87
      · have c79 : x11 = (0 : Int64) := (lg_cmp_eq _ _).mp c79
        have hf := dz_t c79 hf
        refine lv_iconst (v := 1) hx hb dX1_isFit_82 (by decide) ?_
        refine lv_goto (tgt := 87) hx hb dX1_isFit_83 (by decide) ?_
        exact W.zret (v := 1) hx hb hr rfl (fun t ht hW => ⟨⟨1, s7, rfl, Option.some.inj hf, by rw [ht]; exact hP, va_K.moved hW.alike hK, hD⟩, hS.F ht⟩) hS.2.2 dX1_isFit_87
    · skip
      refine dz_case hf (fun t28_3 hf => ?_) (fun t28_3 hf => ?_)
      · refine lv_tableIn (off := 60) (tgt := 88) hx hb dX1_isFit_28 (by rw [t28_3]; decide) (by rw [t28_3]; decide) (by rw [t28_3]; rfl) (by decide) ?_
        refine lv_lload hx hb dX1_isFit_88 (lv_at hl 0 rfl) ?_
        refine lv_lload_n hx hb dX1_isFit_90 rfl (lv_at hl 2 rfl) ?_
        refine lv_lconst (v := 1) hx hb dX1_isFit_91 rfl ?_
        refine lv_ladd hx hb dX1_isFit_92 ?_
        refine W.lcmp hx hb dX1_isFit_93 ?_
        refine lv_if_ne (tgt := 101) hx hb dX1_isFit_94 (by decide) (fun c94 => ?_) (fun c94 => ?_)
        · have c94 : ¬ x6 = (x3 + 1) := fun hq => c94 ((lg_cmp_eq _ _).mpr hq)
          have hf := dz_f c94 hf
          refine lv_iconst (v := 0) hx hb dX1_isFit_101 (by decide) ?_
          exact W.zret (v := 0) hx hb hr rfl (fun t ht hW => ⟨⟨0, s7, rfl, Option.some.inj hf, by rw [ht]; exact hP, va_K.moved hW.alike hK, hD⟩, hS.F ht⟩) hS.2.2 dX1_isFit_102
        · have c94 : x6 = (x3 + 1) := (lg_cmp_eq _ _).mp c94
          have hf := dz_t c94 hf
          refine lv_iconst (v := 1) hx hb dX1_isFit_97 (by decide) ?_
          refine lv_goto (tgt := 102) hx hb dX1_isFit_98 (by decide) ?_
          exact W.zret (v := 1) hx hb hr rfl (fun t ht hW => ⟨⟨1, s7, rfl, Option.some.inj hf, by rw [ht]; exact hP, va_K.moved hW.alike hK, hD⟩, hS.F ht⟩) hS.2.2 dX1_isFit_102
      · skip
        have u28_1 := dz_ne (z := 1) t28_1 (by decide)
        have u28_2 := dz_ne (z := 2) t28_2 (by decide)
        have u28_3 := dz_ne (z := 3) t28_3 (by decide)
        refine lv_tableOut (tgt := 103) hx hb dX1_isFit_28 (by omega) (by decide) ?_
        refine lv_lload_n hx hb dX1_isFit_103 rfl (lv_at hl 2 rfl) ?_
        refine lv_lconst (v := 1) hx hb dX1_isFit_104 rfl ?_
        refine lv_lsub hx hb dX1_isFit_105 ?_
        refine lv_lload hx hb dX1_isFit_106 (lv_at hl 1 rfl) ?_
        obtain ⟨g12, hf⟩ := dz_go hf
        refine lv_lrem hx hb dX1_isFit_108 g12 ?_
        refine lv_topl (fun x13 e_x13 => ?_)
        have hf := dz_ls e_x13 hf
        refine lv_lconst (v := 0) hx hb dX1_isFit_109 rfl ?_
        refine W.lcmp hx hb dX1_isFit_110 ?_
        refine lv_if_ne (tgt := 129) hx hb dX1_isFit_111 (by decide) (fun c111 => ?_) (fun c111 => ?_)
        · have c111 : ¬ x13 = (0 : Int64) := fun hq => c111 ((lg_cmp_eq _ _).mpr hq)
          have hf := dz_f c111 hf
          refine lv_iconst (v := 0) hx hb dX1_isFit_129 (by decide) ?_
          exact W.zret (v := 0) hx hb hr rfl (fun t ht hW => ⟨⟨0, s7, rfl, Option.some.inj hf, by rw [ht]; exact hP, va_K.moved hW.alike hK, hD⟩, hS.F ht⟩) hS.2.2 dX1_isFit_130
        · have c111 : x13 = (0 : Int64) := (lg_cmp_eq _ _).mp c111
          have hf := dz_t c111 hf
          refine lv_lload_n hx hb dX1_isFit_114 rfl (lv_at hl 2 rfl) ?_
          refine lv_lconst (v := 1) hx hb dX1_isFit_115 rfl ?_
          refine lv_ladd hx hb dX1_isFit_116 ?_
          refine lv_lload hx hb dX1_isFit_117 (lv_at hl 0 rfl) ?_
          obtain ⟨g14, hf⟩ := dz_go hf
          refine lv_lrem hx hb dX1_isFit_119 g14 ?_
          refine lv_topl (fun x15 e_x15 => ?_)
          have hf := dz_ls e_x15 hf
          refine lv_lconst (v := 0) hx hb dX1_isFit_120 rfl ?_
          refine W.lcmp hx hb dX1_isFit_121 ?_
          refine lv_if_ne (tgt := 129) hx hb dX1_isFit_122 (by decide) (fun c122 => ?_) (fun c122 => ?_)
          · have c122 : ¬ x15 = (0 : Int64) := fun hq => c122 ((lg_cmp_eq _ _).mpr hq)
            have hf := dz_f c122 hf
            refine lv_iconst (v := 0) hx hb dX1_isFit_129 (by decide) ?_
            exact W.zret (v := 0) hx hb hr rfl (fun t ht hW => ⟨⟨0, s7, rfl, Option.some.inj hf, by rw [ht]; exact hP, va_K.moved hW.alike hK, hD⟩, hS.F ht⟩) hS.2.2 dX1_isFit_130
          · have c122 : x15 = (0 : Int64) := (lg_cmp_eq _ _).mp c122
            have hf := dz_t c122 hf
            refine lv_iconst (v := 1) hx hb dX1_isFit_125 (by decide) ?_
            refine lv_goto (tgt := 130) hx hb dX1_isFit_126 (by decide) ?_
            exact W.zret (v := 1) hx hb hr rfl (fun t ht hW => ⟨⟨1, s7, rfl, Option.some.inj hf, by rw [ht]; exact hP, va_K.moved hW.alike hK, hD⟩, hS.F ht⟩) hS.2.2 dX1_isFit_130

noncomputable def lfX1_faultOf (K : Nat) : Nat → (Int32 → Int32 → Int32 → Int32 → Int32 → pM → Option (Int32 × pM)) × (Int32 → Int32 → Int32 → Int32 → Int32 → pM → Option (Int32 × pM)) := Nat.rec (motive := fun _ => (Int32 → Int32 → Int32 → Int32 → Int32 → pM → Option (Int32 × pM)) × (Int32 → Int32 → Int32 → Int32 → Int32 → pM → Option (Int32 × pM))) ((fun _ _ _ _ _ _ => none), (fun _ _ _ _ _ _ => none)) (fun _ G => ((fun v1 v2 v3 v4 v5 σ => if ¬ (v1 < 0 ∨ 116 ≤ Int32.toNatClampNeg v1) then (dz_l (σ.2.2.1 12 (Int32.toNatClampNeg v1)) fun x2 => if (v4 + x2) ≤ v5 then (G.2 v1 v2 v3 v4 v4 σ) else (if ¬ (v5 < 0 ∨ 1044 ≤ Int32.toNatClampNeg v5) then (dz_l (σ.2.2.1 16 (Int32.toNatClampNeg v5)) fun x4 => dz_b (fnX1_isOneBy K (Int32.toInt64 v2) (Int32.toInt64 x4)) fun x5 => if x5 = (0 : Int32) then (some (5, σ)) else (dz_l (v5 + 1) fun x6 => G.1 v1 v2 v3 v4 x6 σ)) else none)) else none), (fun v1 v2 v3 v4 v5 σ => if ¬ (v1 < 0 ∨ 116 ≤ Int32.toNatClampNeg v1) then (dz_l (σ.2.2.1 12 (Int32.toNatClampNeg v1)) fun x2 => if (v4 + x2) ≤ v5 then (dz_b (fnX1_hasPair K v3) fun x3 => if x3 = (0 : Int32) then (some (0, σ)) else (if ¬ (v1 < 0 ∨ 116 ≤ Int32.toNatClampNeg v1) then (dz_l (σ.2.2.1 10 (Int32.toNatClampNeg v1)) fun x5 => if ¬ (v1 < 0 ∨ 116 ≤ Int32.toNatClampNeg v1) then (dz_l (σ.2.2.1 11 (Int32.toNatClampNeg v1)) fun x7 => dz_c (fnX1_wrongPair K v1 (Int32.toInt64 x5) (Int32.toInt64 x7) σ) fun x8 s9 => some (x8, s9)) else none) else none)) else (if ¬ (v5 < 0 ∨ 1044 ≤ Int32.toNatClampNeg v5) then (dz_l (σ.2.2.1 16 (Int32.toNatClampNeg v5)) fun x11 => if ¬ (v5 < 0 ∨ 1044 ≤ Int32.toNatClampNeg v5) then (dz_l (σ.2.2.1 14 (Int32.toNatClampNeg v5)) fun x13 => dz_b (fnX1_isApartBy K (Int32.toInt64 v2) (Int32.toInt64 x11) (Int32.toInt64 x13)) fun x14 => if x14 = (0 : Int32) then (some (6, σ)) else (dz_l (v5 + 1) fun x15 => G.2 v1 v2 v3 v4 x15 σ)) else none) else none)) else none)))
noncomputable def fnX1_faultOf (K : Nat) (a0 : Int32) (σ : pM) : Option (Int32 × pM) := if ¬ (a0 < 0 ∨ 116 ≤ Int32.toNatClampNeg a0) then (dz_l (σ.2.2.1 8 (Int32.toNatClampNeg a0)) fun x2 => if ¬ (a0 < 0 ∨ 116 ≤ Int32.toNatClampNeg a0) then (dz_l (σ.2.2.1 9 (Int32.toNatClampNeg a0)) fun x4 => if x4 = (0 : Int32) then (if (100 : Int32) ≤ x2 then (some (1, σ)) else (dz_b (fnX1_isPrime K (Int32.toInt64 x2)) fun x27 => if x27 = (0 : Int32) then (some (1, σ)) else (some (0, σ)))) else (dz_l (x2 - x2 / 2 * 2) fun x5 => if x5 = (0 : Int32) then (some (1, σ)) else (dz_l (9 * a0) fun x6 => if ¬ (a0 < 0 ∨ 116 ≤ Int32.toNatClampNeg a0) then (dz_l (σ.2.2.1 12 (Int32.toNatClampNeg a0)) fun x8 => dz_c (fnX1_areTwice_14 K x6 x8 σ) fun x9 s10 => if x9 = (0 : Int32) then (if ¬ (a0 < 0 ∨ 116 ≤ Int32.toNatClampNeg a0) then (dz_l (s10.2.2.1 13 (Int32.toNatClampNeg a0)) fun x12 => dz_c (fnX1_areTwice_17 K x6 x12 s10) fun x13 s14 => if x13 = (0 : Int32) then (if ¬ (a0 < 0 ∨ 116 ≤ Int32.toNatClampNeg a0) then (dz_l (s14.2.2.1 12 (Int32.toNatClampNeg a0)) fun x16 => dz_c (fnX1_hasAll_14 K x6 x16 a0 s14) fun x17 s18 => if x17 = (0 : Int32) then (some (2, s18)) else (if ¬ (a0 < 0 ∨ 116 ≤ Int32.toNatClampNeg a0) then (dz_l (s18.2.2.1 13 (Int32.toNatClampNeg a0)) fun x20 => dz_c (fnX1_hasAll_17 K x6 x20 a0 s18) fun x21 s22 => if x21 = (0 : Int32) then (some (2, s22)) else (dz_c (fnX1_isFit K a0 s22) fun x23 s24 => if x23 = (0 : Int32) then (some (3, s24)) else (dz_c (fnX1_isEnough K a0 s24) fun x25 s26 => if x25 = (0 : Int32) then (some (4, s26)) else ((lfX1_faultOf K K).1 a0 x2 x4 x6 x6 s26)))) else none)) else none) else (some (2, s14))) else none) else (some (2, s10))) else none))) else none) else none
set_option maxHeartbeats 4000000 in
set_option maxRecDepth 100000 in
theorem wlX1_faultOf {p : Program} {l : Launch} {e : Env} {s : State} {m : MethodId} {below : List Frame} {meth : Method} {c : Code} {D : va_G} {cl : List vw_C} {ci : Nat} (hci : cl[ci]? = some (RX1, TX1, 35)) {h : Nat} {ad : Nat → Nat} {cA : Nat → ClassId} {A : Nat → Prop} (hA : ∀ q : Nat, s.heap.size ≤ q → A q) (hK : va_K D cl (mtys cA) s) (K : Nat) (res : (Int32 × pM)) (a0 : Int32) (hx : p.tables.exec = Jvm.exec) (hb : c.code = cX1_faultOf) (hr : meth.sig.returnType = some .int) (hlocks : meth.locks = false) (hml : c.maxLocals = 6) (hown : s.vm.findClass RX1 = some m.cls) (hts : ∀ w ∈ lw_all, w.before ([.ref h, .int a0] : List Value).toArray s = true) : ∀ k : Nat, (∀ (v1 : Int32) (v2 : Int32) (v3 : Int32) (v4 : Int32) (v5 : Int32) (σ : pM) (H : Heap) (locs : List Loc), va_P D cl (mw ci h ad cA σ) H → va_D A (mw ci h ad cA σ) → va_S A s.heap H locs → ∀ (ls : Array Slot), lv_has ls 6 [(0, .ref h), (1, .int v1), (2, .int v2), (3, .int v3), (4, .int v4), (5, .int v5)] → (lfX1_faultOf K k).1 v1 v2 v3 v4 v5 σ = some res → W p l e (headSpec (ws_ yX1_faultOf cX1_faultOf 6 (some .int)) ({ frames := 3, cells := 0, slots := 0, locals := 84 })).room s m ([.ref h, .int a0] : List Value).toArray below meth c H locs 0 0 (MQ below (mQi D cl ci h ad cA A res) ([.ref h, .int a0] : List Value).toArray s 0 0 A) (F0 m 156 ls [])) ∧ (∀ (v1 : Int32) (v2 : Int32) (v3 : Int32) (v4 : Int32) (v5 : Int32) (σ : pM) (H : Heap) (locs : List Loc), va_P D cl (mw ci h ad cA σ) H → va_D A (mw ci h ad cA σ) → va_S A s.heap H locs → ∀ (ls : Array Slot), lv_has ls 6 [(0, .ref h), (1, .int v1), (2, .int v2), (3, .int v3), (4, .int v4), (5, .int v5)] → (lfX1_faultOf K k).2 v1 v2 v3 v4 v5 σ = some res → W p l e (headSpec (ws_ yX1_faultOf cX1_faultOf 6 (some .int)) ({ frames := 3, cells := 0, slots := 0, locals := 84 })).room s m ([.ref h, .int a0] : List Value).toArray below meth c H locs 0 0 (MQ below (mQi D cl ci h ad cA A res) ([.ref h, .int a0] : List Value).toArray s 0 0 A) (F0 m 198 ls [])) := by
  intro k
  induction k with
  | zero =>
    exact ⟨fun _ _ _ _ _ _ _ _ _ _ _ _ _ hf => (by cases hf), fun _ _ _ _ _ _ _ _ _ _ _ _ _ hf => (by cases hf)⟩
  | succ k ih =>
    refine ⟨?_, ?_⟩
    · intro v1 v2 v3 v4 v5 σ H locs hP hD hS ls hl hf
      have hf : (if ¬ (v1 < 0 ∨ 116 ≤ Int32.toNatClampNeg v1) then (dz_l (σ.2.2.1 12 (Int32.toNatClampNeg v1)) fun x2 => if (v4 + x2) ≤ v5 then ((lfX1_faultOf K k).2 v1 v2 v3 v4 v4 σ) else (if ¬ (v5 < 0 ∨ 1044 ≤ Int32.toNatClampNeg v5) then (dz_l (σ.2.2.1 16 (Int32.toNatClampNeg v5)) fun x4 => dz_b (fnX1_isOneBy K (Int32.toInt64 v2) (Int32.toInt64 x4)) fun x5 => if x5 = (0 : Int32) then (some (5, σ)) else (dz_l (v5 + 1) fun x6 => (lfX1_faultOf K k).1 v1 v2 v3 v4 x6 σ)) else none)) else none : Option (Int32 × pM)) = some res := hf
      refine lv_iload hx hb dX1_faultOf_156 (lv_at hl 5 rfl) ?_
      refine lv_iload hx hb dX1_faultOf_158 (lv_at hl 4 rfl) ?_
      refine lv_aload_n hx hb dX1_faultOf_160 rfl (lv_at hl 0 rfl) ?_
      refine va_get (C := RX1) (T := TX1) (N := 35) (fs := mwF ad σ) (v := .ref (ad 12)) hx hb hts in_X1 hown hK hP 0 rfl hci 12 (by decide) (hts _ q1683) (fun _ hq => hq) rfl dX1_faultOf_161 ?_
      refine lv_iload_n hx hb dX1_faultOf_164 rfl (lv_at hl 1 rfl) ?_
      obtain ⟨g1, hf⟩ := dz_go hf
      refine va_iald hx hb hK hP 10 0 rfl rfl g1 dX1_faultOf_165 ?_
      refine lv_topi (fun x2 e_x2 => ?_)
      have hf := dz_ls e_x2 hf
      refine lv_iadd hx hb dX1_faultOf_166 ?_
      refine lv_icmp_ge (tgt := 194) hx hb dX1_faultOf_167 (by decide) (fun c167 => ?_) (fun c167 => ?_)
      · have hf := dz_t c167 hf
        refine lv_iload hx hb dX1_faultOf_194 (lv_at hl 4 rfl) ?_
        refine lv_istore (lv' := [(5, .int v4), (0, .ref h), (1, .int v1), (2, .int v2), (3, .int v3), (4, .int v4)]) hx hb dX1_faultOf_196 hl (by decide) rfl (fun ls hl => ?_)
        exact ih.2 v1 v2 v3 v4 v4 σ H locs hP hD hS ls (lv_sub hl [1, 2, 3, 4, 5, 0] rfl) hf
      · have hf := dz_f c167 hf
        refine lv_iload_n hx hb dX1_faultOf_170 rfl (lv_at hl 2 rfl) ?_
        refine lv_i2l hx hb dX1_faultOf_171 (rfl : _ = Int32.toInt64 v2) ?_
        refine lv_aload_n hx hb dX1_faultOf_172 rfl (lv_at hl 0 rfl) ?_
        refine va_get (C := RX1) (T := TX1) (N := 35) (fs := mwF ad σ) (v := .ref (ad 16)) hx hb hts in_X1 hown hK hP 0 rfl hci 16 (by decide) (hts _ q1687) (fun _ hq => hq) rfl dX1_faultOf_173 ?_
        refine lv_iload hx hb dX1_faultOf_176 (lv_at hl 5 rfl) ?_
        obtain ⟨g3, hf⟩ := dz_go hf
        refine va_iald hx hb hK hP 14 0 rfl rfl g3 dX1_faultOf_178 ?_
        refine lv_topi (fun x4 e_x4 => ?_)
        have hf := dz_ls e_x4 hf
        refine lv_i2l hx hb dX1_faultOf_179 (rfl : _ = Int32.toInt64 x4) ?_
        obtain ⟨x5, hx5, hf⟩ := dz_bo hf
        refine va_calli (va_runS (As := [.long (Int32.toInt64 v2), .long (Int32.toInt64 x4)]) (rest := []) ⟨hx, hb, hml, hown, hts⟩ (mtX1_isOneBy l (Int32.toInt64 v2) (Int32.toInt64 x4) K x5 hx5) (va_cwS 2 hts (lw_S q1841 q1842 q88 q1843) rfl rfl rfl (by decide +kernel) ⟨Nat.le_of_ble_eq_true rfl, Nat.le_of_ble_eq_true rfl⟩) ⟨fun a U g mk q => q, fun U hU hW => ⟨rfl, trivial⟩⟩ rfl rfl hl.1 rfl (lv_room (Nat.le_of_ble_eq_true rfl)) dX1_faultOf_180 ⟨Nat.le_refl _, Nat.le_refl _⟩) hS (fun q _ hq => hq.elim) (fun q hq => hq.elim) (fun r u t H1 locs ht hvm hw hB hz hk hS => ?_)
        replace hw := hw.symm; subst hw
        replace hP := dz_keep hP hk
        clear hB hk hz hvm ht; generalize H1 = H at hP hS ⊢
        refine lv_if_ne (tgt := 188) hx hb dX1_faultOf_183 (by decide) (fun c183 => ?_) (fun c183 => ?_)
        · have hf := dz_f c183 hf
          obtain ⟨x6, e_x6, hf⟩ := dz_lo hf
          refine lv_iinc (v := x6) (lv' := [(5, .int x6), (0, .ref h), (1, .int v1), (2, .int v2), (3, .int v3), (4, .int v4)]) hx hb dX1_faultOf_188 hl (k := 5) rfl (by rw [e_x6]; rfl) (by decide) rfl (fun ls hl => ?_)
          refine lv_goto (tgt := 156) hx hb dX1_faultOf_191 (by decide) ?_
          exact ih.1 v1 v2 v3 v4 x6 σ H locs hP hD hS ls (lv_sub hl [1, 2, 3, 4, 5, 0] rfl) hf
        · have hf := dz_t c183 hf
          refine lv_iconst (v := 5) hx hb dX1_faultOf_186 (by decide) ?_
          exact W.iret (v := 5) hx hb hr (fun t ht hW => ⟨⟨5, σ, rfl, Option.some.inj hf, by rw [ht]; exact hP, va_K.moved hW.alike hK, hD⟩, hS.F ht⟩) hS.2.2 dX1_faultOf_187
    · intro v1 v2 v3 v4 v5 σ H locs hP hD hS ls hl hf
      have hf : (if ¬ (v1 < 0 ∨ 116 ≤ Int32.toNatClampNeg v1) then (dz_l (σ.2.2.1 12 (Int32.toNatClampNeg v1)) fun x2 => if (v4 + x2) ≤ v5 then (dz_b (fnX1_hasPair K v3) fun x3 => if x3 = (0 : Int32) then (some (0, σ)) else (if ¬ (v1 < 0 ∨ 116 ≤ Int32.toNatClampNeg v1) then (dz_l (σ.2.2.1 10 (Int32.toNatClampNeg v1)) fun x5 => if ¬ (v1 < 0 ∨ 116 ≤ Int32.toNatClampNeg v1) then (dz_l (σ.2.2.1 11 (Int32.toNatClampNeg v1)) fun x7 => dz_c (fnX1_wrongPair K v1 (Int32.toInt64 x5) (Int32.toInt64 x7) σ) fun x8 s9 => some (x8, s9)) else none) else none)) else (if ¬ (v5 < 0 ∨ 1044 ≤ Int32.toNatClampNeg v5) then (dz_l (σ.2.2.1 16 (Int32.toNatClampNeg v5)) fun x11 => if ¬ (v5 < 0 ∨ 1044 ≤ Int32.toNatClampNeg v5) then (dz_l (σ.2.2.1 14 (Int32.toNatClampNeg v5)) fun x13 => dz_b (fnX1_isApartBy K (Int32.toInt64 v2) (Int32.toInt64 x11) (Int32.toInt64 x13)) fun x14 => if x14 = (0 : Int32) then (some (6, σ)) else (dz_l (v5 + 1) fun x15 => (lfX1_faultOf K k).2 v1 v2 v3 v4 x15 σ)) else none) else none)) else none : Option (Int32 × pM)) = some res := hf
      refine lv_iload hx hb dX1_faultOf_198 (lv_at hl 5 rfl) ?_
      refine lv_iload hx hb dX1_faultOf_200 (lv_at hl 4 rfl) ?_
      refine lv_aload_n hx hb dX1_faultOf_202 rfl (lv_at hl 0 rfl) ?_
      refine va_get (C := RX1) (T := TX1) (N := 35) (fs := mwF ad σ) (v := .ref (ad 12)) hx hb hts in_X1 hown hK hP 0 rfl hci 12 (by decide) (hts _ q1683) (fun _ hq => hq) rfl dX1_faultOf_203 ?_
      refine lv_iload_n hx hb dX1_faultOf_206 rfl (lv_at hl 1 rfl) ?_
      obtain ⟨g1, hf⟩ := dz_go hf
      refine va_iald hx hb hK hP 10 0 rfl rfl g1 dX1_faultOf_207 ?_
      refine lv_topi (fun x2 e_x2 => ?_)
      have hf := dz_ls e_x2 hf
      refine lv_iadd hx hb dX1_faultOf_208 ?_
      refine lv_icmp_ge (tgt := 245) hx hb dX1_faultOf_209 (by decide) (fun c209 => ?_) (fun c209 => ?_)
      · have hf := dz_t c209 hf
        refine lv_iload_n hx hb dX1_faultOf_245 rfl (lv_at hl 3 rfl) ?_
        obtain ⟨x3, hx3, hf⟩ := dz_bo hf
        refine va_calli (va_runS (As := [.int v3]) (rest := []) ⟨hx, hb, hml, hown, hts⟩ (mtX1_hasPair l v3 K x3 hx3) (va_cwS 1 hts (lw_S q1850 q1851 q88 q1852) rfl rfl rfl (by decide +kernel) ⟨Nat.le_of_ble_eq_true rfl, Nat.le_of_ble_eq_true rfl⟩) ⟨fun a U g mk q => q, fun U hU hW => ⟨rfl, trivial⟩⟩ rfl rfl hl.1 rfl (lv_room (Nat.le_of_ble_eq_true rfl)) dX1_faultOf_246 ⟨Nat.le_refl _, Nat.le_refl _⟩) hS (fun q _ hq => hq.elim) (fun q hq => hq.elim) (fun r u t H1 locs ht hvm hw hB hz hk hS => ?_)
        replace hw := hw.symm; subst hw
        replace hP := dz_keep hP hk
        clear hB hk hz hvm ht; generalize H1 = H at hP hS ⊢
        refine lv_if_eq (tgt := 274) hx hb dX1_faultOf_249 (by decide) (fun c249 => ?_) (fun c249 => ?_)
        · have hf := dz_t c249 hf
          refine lv_iconst (v := 0) hx hb dX1_faultOf_274 (by decide) ?_
          exact W.iret (v := 0) hx hb hr (fun t ht hW => ⟨⟨0, σ, rfl, Option.some.inj hf, by rw [ht]; exact hP, va_K.moved hW.alike hK, hD⟩, hS.F ht⟩) hS.2.2 dX1_faultOf_275
        · have hf := dz_f c249 hf
          refine lv_aload_n hx hb dX1_faultOf_252 rfl (lv_at hl 0 rfl) ?_
          refine lv_iload_n hx hb dX1_faultOf_253 rfl (lv_at hl 1 rfl) ?_
          refine lv_aload_n hx hb dX1_faultOf_254 rfl (lv_at hl 0 rfl) ?_
          refine va_get (C := RX1) (T := TX1) (N := 35) (fs := mwF ad σ) (v := .ref (ad 10)) hx hb hts in_X1 hown hK hP 0 rfl hci 10 (by decide) (hts _ q1681) (fun _ hq => hq) rfl dX1_faultOf_255 ?_
          refine lv_iload_n hx hb dX1_faultOf_258 rfl (lv_at hl 1 rfl) ?_
          obtain ⟨g4, hf⟩ := dz_go hf
          refine va_iald hx hb hK hP 8 0 rfl rfl g4 dX1_faultOf_259 ?_
          refine lv_topi (fun x5 e_x5 => ?_)
          have hf := dz_ls e_x5 hf
          refine lv_i2l hx hb dX1_faultOf_260 (rfl : _ = Int32.toInt64 x5) ?_
          refine lv_aload_n hx hb dX1_faultOf_261 rfl (lv_at hl 0 rfl) ?_
          refine va_get (C := RX1) (T := TX1) (N := 35) (fs := mwF ad σ) (v := .ref (ad 11)) hx hb hts in_X1 hown hK hP 0 rfl hci 11 (by decide) (hts _ q1682) (fun _ hq => hq) rfl dX1_faultOf_262 ?_
          refine lv_iload_n hx hb dX1_faultOf_265 rfl (lv_at hl 1 rfl) ?_
          obtain ⟨g6, hf⟩ := dz_go hf
          refine va_iald hx hb hK hP 9 0 rfl rfl g6 dX1_faultOf_266 ?_
          refine lv_topi (fun x7 e_x7 => ?_)
          have hf := dz_ls e_x7 hf
          refine lv_i2l hx hb dX1_faultOf_267 (rfl : _ = Int32.toInt64 x7) ?_
          obtain ⟨x8, s9, hx8, hf⟩ := dz_co hf
          have hFc := dz_free hD hS hA
          refine va_calli (va_runV (As := [.int v1, .long (Int32.toInt64 x5), .long (Int32.toInt64 x7)]) (rest := []) ⟨hx, hb, hml, hown, hts⟩ (mtX1_wrongPair l D cl ci hci h ad cA H.size σ v1 (Int32.toInt64 x5) (Int32.toInt64 x7) K (x8, s9) hx8) (cwV 3 hts (lw_V q1853 q1855 qs45 q88 q1856) rfl rfl rfl (by decide +kernel) ⟨Nat.le_of_ble_eq_true rfl, Nat.le_of_ble_eq_true rfl⟩) (m_preV hci hK hP hD) rfl rfl hl.1 rfl (lv_room (Nat.le_of_ble_eq_true rfl)) dX1_faultOf_268 ⟨Nat.le_refl _, Nat.le_refl _⟩) hS (fun q _ hq => hFc q hq) hFc (fun r u t H1 locs ht hvm hw hB hz hk hS => ?_)
          obtain ⟨hw1, hw2⟩ := Prod.mk.inj hw.symm; subst hw1; subst hw2
          replace hP := m_back ht hB
          replace hD := mw_D s9 hD
          clear hB hk hz hvm ht hFc; generalize H1 = H at hP hS ⊢
          refine lv_goto (tgt := 275) hx hb dX1_faultOf_271 (by decide) ?_
          exact W.iret (v := x8) hx hb hr (fun t ht hW => ⟨⟨x8, s9, rfl, Option.some.inj hf, by rw [ht]; exact hP, va_K.moved hW.alike hK, hD⟩, hS.F ht⟩) hS.2.2 dX1_faultOf_275
      · have hf := dz_f c209 hf
        refine lv_iload_n hx hb dX1_faultOf_212 rfl (lv_at hl 2 rfl) ?_
        refine lv_i2l hx hb dX1_faultOf_213 (rfl : _ = Int32.toInt64 v2) ?_
        refine lv_aload_n hx hb dX1_faultOf_214 rfl (lv_at hl 0 rfl) ?_
        refine va_get (C := RX1) (T := TX1) (N := 35) (fs := mwF ad σ) (v := .ref (ad 16)) hx hb hts in_X1 hown hK hP 0 rfl hci 16 (by decide) (hts _ q1687) (fun _ hq => hq) rfl dX1_faultOf_215 ?_
        refine lv_iload hx hb dX1_faultOf_218 (lv_at hl 5 rfl) ?_
        obtain ⟨g10, hf⟩ := dz_go hf
        refine va_iald hx hb hK hP 14 0 rfl rfl g10 dX1_faultOf_220 ?_
        refine lv_topi (fun x11 e_x11 => ?_)
        have hf := dz_ls e_x11 hf
        refine lv_i2l hx hb dX1_faultOf_221 (rfl : _ = Int32.toInt64 x11) ?_
        refine lv_aload_n hx hb dX1_faultOf_222 rfl (lv_at hl 0 rfl) ?_
        refine va_get (C := RX1) (T := TX1) (N := 35) (fs := mwF ad σ) (v := .ref (ad 14)) hx hb hts in_X1 hown hK hP 0 rfl hci 14 (by decide) (hts _ q1685) (fun _ hq => hq) rfl dX1_faultOf_223 ?_
        refine lv_iload hx hb dX1_faultOf_226 (lv_at hl 5 rfl) ?_
        obtain ⟨g12, hf⟩ := dz_go hf
        refine va_iald hx hb hK hP 12 0 rfl rfl g12 dX1_faultOf_228 ?_
        refine lv_topi (fun x13 e_x13 => ?_)
        have hf := dz_ls e_x13 hf
        refine lv_i2l hx hb dX1_faultOf_229 (rfl : _ = Int32.toInt64 x13) ?_
        obtain ⟨x14, hx14, hf⟩ := dz_bo hf
        refine va_calli (va_runS (As := [.long (Int32.toInt64 v2), .long (Int32.toInt64 x11), .long (Int32.toInt64 x13)]) (rest := []) ⟨hx, hb, hml, hown, hts⟩ (mtX1_isApartBy l (Int32.toInt64 v2) (Int32.toInt64 x11) (Int32.toInt64 x13) K x14 hx14) (va_cwS 3 hts (lw_S q1847 q1848 q88 q1849) rfl rfl rfl (by decide +kernel) ⟨Nat.le_of_ble_eq_true rfl, Nat.le_of_ble_eq_true rfl⟩) ⟨fun a U g mk q => q, fun U hU hW => ⟨rfl, trivial⟩⟩ rfl rfl hl.1 rfl (lv_room (Nat.le_of_ble_eq_true rfl)) dX1_faultOf_230 ⟨Nat.le_refl _, Nat.le_refl _⟩) hS (fun q _ hq => hq.elim) (fun q hq => hq.elim) (fun r u t H1 locs ht hvm hw hB hz hk hS => ?_)
        replace hw := hw.symm; subst hw
        replace hP := dz_keep hP hk
        clear hB hk hz hvm ht; generalize H1 = H at hP hS ⊢
        refine lv_if_ne (tgt := 239) hx hb dX1_faultOf_233 (by decide) (fun c233 => ?_) (fun c233 => ?_)
        · have hf := dz_f c233 hf
          obtain ⟨x15, e_x15, hf⟩ := dz_lo hf
          refine lv_iinc (v := x15) (lv' := [(5, .int x15), (0, .ref h), (1, .int v1), (2, .int v2), (3, .int v3), (4, .int v4)]) hx hb dX1_faultOf_239 hl (k := 5) rfl (by rw [e_x15]; rfl) (by decide) rfl (fun ls hl => ?_)
          refine lv_goto (tgt := 198) hx hb dX1_faultOf_242 (by decide) ?_
          exact ih.2 v1 v2 v3 v4 x15 σ H locs hP hD hS ls (lv_sub hl [1, 2, 3, 4, 5, 0] rfl) hf
        · have hf := dz_t c233 hf
          refine lv_bipush (v := 6) hx hb dX1_faultOf_236 (by decide) ?_
          exact W.iret (v := 6) hx hb hr (fun t ht hW => ⟨⟨6, σ, rfl, Option.some.inj hf, by rw [ht]; exact hP, va_K.moved hW.alike hK, hD⟩, hS.F ht⟩) hS.2.2 dX1_faultOf_238
set_option maxHeartbeats 4000000 in
set_option maxRecDepth 100000 in
theorem mtX1_faultOf (l : Launch) (D : va_G) (cl : List vw_C) (ci : Nat) (hci : cl[ci]? = some (RX1, TX1, 35)) (h : Nat) (ad : Nat → Nat) (cA : Nat → ClassId) (sz : Nat) (σ : pM) (a0 : Int32) (K : Nat) (res : (Int32 × pM)) (hf : fnX1_faultOf K a0 σ = some res) : Met l yX1_faultOf (ws_ yX1_faultOf cX1_faultOf 6 (some .int)) ({ frames := 3, cells := 0, slots := 0, locals := 84 }) (mPc D cl ci h ad cA sz σ [.ref h, .int a0]) (mQi D cl ci h ad cA (va_A (mw ci h ad cA σ) sz) res) 0 0 (va_A (mw ci h ad cA σ) sz) := by
  refine Met.ofW (cc := cX1_faultOf) (maxL := 6) (ret := some .int) (by decide +kernel) rfl ?_
  intro p e s m args below meth c s₁ B hml hv
  obtain ⟨rfl, hsz, hP, hK, hD0⟩ := hv
  have hx := B.exec
  have hb := B.bytes
  have hr := B.returns
  have hts := atoms_spec (ws := ws_ yX1_faultOf cX1_faultOf 6 (some .int)) B.pre
  have hts : ∀ w ∈ lw_all, w.before _ s = true := fun w h => hts w (List.mem_cons_of_mem _ h)
  have hown : s.vm.findClass RX1 = some m.cls := findClass_of_methodNamed B.named
  have hlocks := B.notSynchronized
  subst hsz
  have hD := hD0.self (sz := s.heap.size)
  generalize hAe : va_A (mw ci h ad cA σ) s.heap.size = A at hD ⊢
  have hA : ∀ q : Nat, s.heap.size ≤ q → A q := fun q h => by rw [← hAe]; exact Or.inr h
  clear hAe hD0
  have hS : va_S A s.heap s.heap [] := va_S.rf
  generalize hHe : s.heap = H at hP hS ⊢
  have hS : va_S A s.heap H [] := by rw [hHe]; exact hS
  generalize ([] : List Loc) = locs at hS ⊢
  have hl := lv_entry ([.ref h, .int a0]) (n := 6) (Nat.le_of_ble_eq_true rfl)
  rw [lg_entry_eq]
  generalize (lg_sl ([.ref h, .int a0]) ++ List.replicate (6 - (lg_sl ([.ref h, .int a0])).length) Slot.unset).toArray = ls at hl ⊢
  have hl : lv_has ls 6 [(0, .ref h), (1, .int a0)] := hl
  have hf : (if ¬ (a0 < 0 ∨ 116 ≤ Int32.toNatClampNeg a0) then (dz_l (σ.2.2.1 8 (Int32.toNatClampNeg a0)) fun x2 => if ¬ (a0 < 0 ∨ 116 ≤ Int32.toNatClampNeg a0) then (dz_l (σ.2.2.1 9 (Int32.toNatClampNeg a0)) fun x4 => if x4 = (0 : Int32) then (if (100 : Int32) ≤ x2 then (some (1, σ)) else (dz_b (fnX1_isPrime K (Int32.toInt64 x2)) fun x27 => if x27 = (0 : Int32) then (some (1, σ)) else (some (0, σ)))) else (dz_l (x2 - x2 / 2 * 2) fun x5 => if x5 = (0 : Int32) then (some (1, σ)) else (dz_l (9 * a0) fun x6 => if ¬ (a0 < 0 ∨ 116 ≤ Int32.toNatClampNeg a0) then (dz_l (σ.2.2.1 12 (Int32.toNatClampNeg a0)) fun x8 => dz_c (fnX1_areTwice_14 K x6 x8 σ) fun x9 s10 => if x9 = (0 : Int32) then (if ¬ (a0 < 0 ∨ 116 ≤ Int32.toNatClampNeg a0) then (dz_l (s10.2.2.1 13 (Int32.toNatClampNeg a0)) fun x12 => dz_c (fnX1_areTwice_17 K x6 x12 s10) fun x13 s14 => if x13 = (0 : Int32) then (if ¬ (a0 < 0 ∨ 116 ≤ Int32.toNatClampNeg a0) then (dz_l (s14.2.2.1 12 (Int32.toNatClampNeg a0)) fun x16 => dz_c (fnX1_hasAll_14 K x6 x16 a0 s14) fun x17 s18 => if x17 = (0 : Int32) then (some (2, s18)) else (if ¬ (a0 < 0 ∨ 116 ≤ Int32.toNatClampNeg a0) then (dz_l (s18.2.2.1 13 (Int32.toNatClampNeg a0)) fun x20 => dz_c (fnX1_hasAll_17 K x6 x20 a0 s18) fun x21 s22 => if x21 = (0 : Int32) then (some (2, s22)) else (dz_c (fnX1_isFit K a0 s22) fun x23 s24 => if x23 = (0 : Int32) then (some (3, s24)) else (dz_c (fnX1_isEnough K a0 s24) fun x25 s26 => if x25 = (0 : Int32) then (some (4, s26)) else ((lfX1_faultOf K K).1 a0 x2 x4 x6 x6 s26)))) else none)) else none) else (some (2, s14))) else none) else (some (2, s10))) else none))) else none) else none : Option (Int32 × pM)) = some res := hf
  have ih := wlX1_faultOf (l := l) (e := e) (below := below) (h := h) (ad := ad) (cA := cA) hci hA hK K res a0 hx hb hr hlocks hml hown hts K
  refine lv_aload_n hx hb dX1_faultOf_0 rfl (lv_at hl 0 rfl) ?_
  refine va_get (C := RX1) (T := TX1) (N := 35) (fs := mwF ad σ) (v := .ref (ad 8)) hx hb hts in_X1 hown hK hP 0 rfl hci 8 (by decide) (hts _ q1679) (fun _ hq => hq) rfl dX1_faultOf_1 ?_
  refine lv_iload_n hx hb dX1_faultOf_4 rfl (lv_at hl 1 rfl) ?_
  obtain ⟨g1, hf⟩ := dz_go hf
  refine va_iald hx hb hK hP 6 0 rfl rfl g1 dX1_faultOf_5 ?_
  refine lv_topi (fun x2 e_x2 => ?_)
  have hf := dz_ls e_x2 hf
  refine lv_istore_n (lv' := [(2, .int x2), (0, .ref h), (1, .int a0)]) hx hb dX1_faultOf_6 rfl hl (by decide) rfl (fun ls hl => ?_)
  refine lv_aload_n hx hb dX1_faultOf_7 rfl (lv_at hl 1 rfl) ?_
  refine va_get (C := RX1) (T := TX1) (N := 35) (fs := mwF ad σ) (v := .ref (ad 9)) hx hb hts in_X1 hown hK hP 0 rfl hci 9 (by decide) (hts _ q1680) (fun _ hq => hq) rfl dX1_faultOf_8 ?_
  refine lv_iload_n hx hb dX1_faultOf_11 rfl (lv_at hl 2 rfl) ?_
  obtain ⟨g3, hf⟩ := dz_go hf
  refine va_iald hx hb hK hP 7 0 rfl rfl g3 dX1_faultOf_12 ?_
  refine lv_topi (fun x4 e_x4 => ?_)
  have hf := dz_ls e_x4 hf
  refine lv_istore_n (lv' := [(3, .int x4), (2, .int x2), (0, .ref h), (1, .int a0)]) hx hb dX1_faultOf_13 rfl hl (by decide) rfl (fun ls hl => ?_)
  refine lv_iload_n hx hb dX1_faultOf_14 rfl (lv_at hl 0 rfl) ?_
  refine lv_if_ne (tgt := 38) hx hb dX1_faultOf_15 (by decide) (fun c15 => ?_) (fun c15 => ?_)
  · have hf := dz_f c15 hf
    refine lv_iload_n hx hb dX1_faultOf_38 rfl (lv_at hl 1 rfl) ?_
    refine lv_iconst (v := 2) hx hb dX1_faultOf_39 (by decide) ?_
    refine lv_irem hx hb dX1_faultOf_40 (by decide) ?_
    refine lv_topi (fun x5 e_x5 => ?_)
    have hf := dz_ls e_x5 hf
    refine lv_if_ne (tgt := 46) hx hb dX1_faultOf_41 (by decide) (fun c41 => ?_) (fun c41 => ?_)
    · have hf := dz_f c41 hf
      refine lv_bipush (v := 9) hx hb dX1_faultOf_46 (by decide) ?_
      refine lv_iload_n hx hb dX1_faultOf_48 rfl (lv_at hl 3 rfl) ?_
      refine lv_imul hx hb dX1_faultOf_49 ?_
      refine lv_topi (fun x6 e_x6 => ?_)
      have hf := dz_ls e_x6 hf
      refine lv_istore (lv' := [(4, .int x6), (3, .int x4), (2, .int x2), (0, .ref h), (1, .int a0)]) hx hb dX1_faultOf_50 hl (by decide) rfl (fun ls hl => ?_)
      refine lv_aload_n hx hb dX1_faultOf_52 rfl (lv_at hl 3 rfl) ?_
      refine va_get (C := RX1) (T := TX1) (N := 35) (fs := mwF ad σ) (v := .ref (ad 14)) hx hb hts in_X1 hown hK hP 0 rfl hci 14 (by decide) (hts _ q1685) (fun _ hq => hq) rfl dX1_faultOf_53 ?_
      refine lv_iload hx hb dX1_faultOf_56 (lv_at hl 0 rfl) ?_
      refine lv_aload_n hx hb dX1_faultOf_58 rfl (lv_at hl 3 rfl) ?_
      refine va_get (C := RX1) (T := TX1) (N := 35) (fs := mwF ad σ) (v := .ref (ad 12)) hx hb hts in_X1 hown hK hP 0 rfl hci 12 (by decide) (hts _ q1683) (fun _ hq => hq) rfl dX1_faultOf_59 ?_
      refine lv_iload_n hx hb dX1_faultOf_62 rfl (lv_at hl 4 rfl) ?_
      obtain ⟨g7, hf⟩ := dz_go hf
      refine va_iald hx hb hK hP 10 0 rfl rfl g7 dX1_faultOf_63 ?_
      refine lv_topi (fun x8 e_x8 => ?_)
      have hf := dz_ls e_x8 hf
      obtain ⟨x9, s10, hx9, hf⟩ := dz_co hf
      have hFc := dz_free hD hS hA
      refine va_calli (va_runS (As := [.ref (ad 14), .int x6, .int x8]) (rest := []) ⟨hx, hb, hml, hown, hts⟩ (mtX1_areTwice_14 l D cl ci hci h ad cA H.size σ x6 x8 K (x9, s10) hx9) (va_cwS 3 hts (lw_S q1802 q1803 q88 q1804) rfl rfl rfl (by decide +kernel) ⟨Nat.le_of_ble_eq_true rfl, Nat.le_of_ble_eq_true rfl⟩) (m_preS hK hP hD) rfl rfl hl.1 rfl (lv_room (Nat.le_of_ble_eq_true rfl)) dX1_faultOf_64 ⟨Nat.le_refl _, Nat.le_refl _⟩) hS (fun q _ hq => hFc q hq) hFc (fun r u t H1 locs ht hvm hw hB hz hk hS => ?_)
      obtain ⟨hw1, hw2⟩ := Prod.mk.inj hw.symm; subst hw1; subst hw2
      replace hP := m_back ht hB
      replace hD := mw_D s10 hD
      clear hB hk hz hvm ht hFc; generalize H1 = H at hP hS ⊢
      refine lv_if_ne (tgt := 88) hx hb dX1_faultOf_67 (by decide) (fun c67 => ?_) (fun c67 => ?_)
      · have hf := dz_f c67 hf
        refine lv_iconst (v := 2) hx hb dX1_faultOf_88 (by decide) ?_
        exact W.iret (v := 2) hx hb hr (fun t ht hW => ⟨⟨2, s10, rfl, Option.some.inj hf, by rw [ht]; exact hP, va_K.moved hW.alike hK, hD⟩, hS.F ht⟩) hS.2.2 dX1_faultOf_89
      · have hf := dz_t c67 hf
        refine lv_aload_n hx hb dX1_faultOf_70 rfl (lv_at hl 3 rfl) ?_
        refine va_get (C := RX1) (T := TX1) (N := 35) (fs := mwF ad s10) (v := .ref (ad 17)) hx hb hts in_X1 hown hK hP 0 rfl hci 17 (by decide) (hts _ q1688) (fun _ hq => hq) rfl dX1_faultOf_71 ?_
        refine lv_iload hx hb dX1_faultOf_74 (lv_at hl 0 rfl) ?_
        refine lv_aload_n hx hb dX1_faultOf_76 rfl (lv_at hl 3 rfl) ?_
        refine va_get (C := RX1) (T := TX1) (N := 35) (fs := mwF ad s10) (v := .ref (ad 13)) hx hb hts in_X1 hown hK hP 0 rfl hci 13 (by decide) (hts _ q1684) (fun _ hq => hq) rfl dX1_faultOf_77 ?_
        refine lv_iload_n hx hb dX1_faultOf_80 rfl (lv_at hl 4 rfl) ?_
        obtain ⟨g11, hf⟩ := dz_go hf
        refine va_iald hx hb hK hP 11 0 rfl rfl g11 dX1_faultOf_81 ?_
        refine lv_topi (fun x12 e_x12 => ?_)
        have hf := dz_ls e_x12 hf
        obtain ⟨x13, s14, hx13, hf⟩ := dz_co hf
        have hFc := dz_free hD hS hA
        refine va_calli (va_runS (As := [.ref (ad 17), .int x6, .int x12]) (rest := []) ⟨hx, hb, hml, hown, hts⟩ (mtX1_areTwice_17 l D cl ci hci h ad cA H.size s10 x6 x12 K (x13, s14) hx13) (va_cwS 3 hts (lw_S q1802 q1803 q88 q1804) rfl rfl rfl (by decide +kernel) ⟨Nat.le_of_ble_eq_true rfl, Nat.le_of_ble_eq_true rfl⟩) (m_preS hK hP hD) rfl rfl hl.1 rfl (lv_room (Nat.le_of_ble_eq_true rfl)) dX1_faultOf_82 ⟨Nat.le_refl _, Nat.le_refl _⟩) hS (fun q _ hq => hFc q hq) hFc (fun r u t H1 locs ht hvm hw hB hz hk hS => ?_)
        obtain ⟨hw1, hw2⟩ := Prod.mk.inj hw.symm; subst hw1; subst hw2
        replace hP := m_back ht hB
        replace hD := mw_D s14 hD
        clear hB hk hz hvm ht hFc; generalize H1 = H at hP hS ⊢
        refine lv_if_eq (tgt := 90) hx hb dX1_faultOf_85 (by decide) (fun c85 => ?_) (fun c85 => ?_)
        · have hf := dz_t c85 hf
          refine lv_aload_n hx hb dX1_faultOf_90 rfl (lv_at hl 3 rfl) ?_
          refine lv_aload_n hx hb dX1_faultOf_91 rfl (lv_at hl 3 rfl) ?_
          refine va_get (C := RX1) (T := TX1) (N := 35) (fs := mwF ad s14) (v := .ref (ad 14)) hx hb hts in_X1 hown hK hP 0 rfl hci 14 (by decide) (hts _ q1685) (fun _ hq => hq) rfl dX1_faultOf_92 ?_
          refine lv_iload hx hb dX1_faultOf_95 (lv_at hl 0 rfl) ?_
          refine lv_aload_n hx hb dX1_faultOf_97 rfl (lv_at hl 3 rfl) ?_
          refine va_get (C := RX1) (T := TX1) (N := 35) (fs := mwF ad s14) (v := .ref (ad 12)) hx hb hts in_X1 hown hK hP 0 rfl hci 12 (by decide) (hts _ q1683) (fun _ hq => hq) rfl dX1_faultOf_98 ?_
          refine lv_iload_n hx hb dX1_faultOf_101 rfl (lv_at hl 4 rfl) ?_
          obtain ⟨g15, hf⟩ := dz_go hf
          refine va_iald hx hb hK hP 10 0 rfl rfl g15 dX1_faultOf_102 ?_
          refine lv_topi (fun x16 e_x16 => ?_)
          have hf := dz_ls e_x16 hf
          refine lv_iload_n hx hb dX1_faultOf_103 rfl (lv_at hl 4 rfl) ?_
          obtain ⟨x17, s18, hx17, hf⟩ := dz_co hf
          have hFc := dz_free hD hS hA
          refine va_calli (va_runV (As := [.ref (ad 14), .int x6, .int x16, .int a0]) (rest := []) ⟨hx, hb, hml, hown, hts⟩ (mtX1_hasAll_14 l D cl ci hci h ad cA H.size s14 x6 x16 a0 K (x17, s18) hx17) (cwV 4 hts (lw_V q1805 q1807 qs38 q88 q1808) rfl rfl rfl (by decide +kernel) ⟨Nat.le_of_ble_eq_true rfl, Nat.le_of_ble_eq_true rfl⟩) (m_preV hci hK hP hD) rfl rfl hl.1 rfl (lv_room (Nat.le_of_ble_eq_true rfl)) dX1_faultOf_104 ⟨Nat.le_refl _, Nat.le_refl _⟩) hS (fun q _ hq => hFc q hq) hFc (fun r u t H1 locs ht hvm hw hB hz hk hS => ?_)
          obtain ⟨hw1, hw2⟩ := Prod.mk.inj hw.symm; subst hw1; subst hw2
          replace hP := m_back ht hB
          replace hD := mw_D s18 hD
          clear hB hk hz hvm ht hFc; generalize H1 = H at hP hS ⊢
          refine lv_if_eq (tgt := 130) hx hb dX1_faultOf_107 (by decide) (fun c107 => ?_) (fun c107 => ?_)
          · have hf := dz_t c107 hf
            refine lv_iconst (v := 2) hx hb dX1_faultOf_130 (by decide) ?_
            exact W.iret (v := 2) hx hb hr (fun t ht hW => ⟨⟨2, s18, rfl, Option.some.inj hf, by rw [ht]; exact hP, va_K.moved hW.alike hK, hD⟩, hS.F ht⟩) hS.2.2 dX1_faultOf_131
          · have hf := dz_f c107 hf
            refine lv_aload_n hx hb dX1_faultOf_110 rfl (lv_at hl 3 rfl) ?_
            refine lv_aload_n hx hb dX1_faultOf_111 rfl (lv_at hl 3 rfl) ?_
            refine va_get (C := RX1) (T := TX1) (N := 35) (fs := mwF ad s18) (v := .ref (ad 17)) hx hb hts in_X1 hown hK hP 0 rfl hci 17 (by decide) (hts _ q1688) (fun _ hq => hq) rfl dX1_faultOf_112 ?_
            refine lv_iload hx hb dX1_faultOf_115 (lv_at hl 0 rfl) ?_
            refine lv_aload_n hx hb dX1_faultOf_117 rfl (lv_at hl 3 rfl) ?_
            refine va_get (C := RX1) (T := TX1) (N := 35) (fs := mwF ad s18) (v := .ref (ad 13)) hx hb hts in_X1 hown hK hP 0 rfl hci 13 (by decide) (hts _ q1684) (fun _ hq => hq) rfl dX1_faultOf_118 ?_
            refine lv_iload_n hx hb dX1_faultOf_121 rfl (lv_at hl 4 rfl) ?_
            obtain ⟨g19, hf⟩ := dz_go hf
            refine va_iald hx hb hK hP 11 0 rfl rfl g19 dX1_faultOf_122 ?_
            refine lv_topi (fun x20 e_x20 => ?_)
            have hf := dz_ls e_x20 hf
            refine lv_iload_n hx hb dX1_faultOf_123 rfl (lv_at hl 4 rfl) ?_
            obtain ⟨x21, s22, hx21, hf⟩ := dz_co hf
            have hFc := dz_free hD hS hA
            refine va_calli (va_runV (As := [.ref (ad 17), .int x6, .int x20, .int a0]) (rest := []) ⟨hx, hb, hml, hown, hts⟩ (mtX1_hasAll_17 l D cl ci hci h ad cA H.size s18 x6 x20 a0 K (x21, s22) hx21) (cwV 4 hts (lw_V q1805 q1807 qs38 q88 q1808) rfl rfl rfl (by decide +kernel) ⟨Nat.le_of_ble_eq_true rfl, Nat.le_of_ble_eq_true rfl⟩) (m_preV hci hK hP hD) rfl rfl hl.1 rfl (lv_room (Nat.le_of_ble_eq_true rfl)) dX1_faultOf_124 ⟨Nat.le_refl _, Nat.le_refl _⟩) hS (fun q _ hq => hFc q hq) hFc (fun r u t H1 locs ht hvm hw hB hz hk hS => ?_)
            obtain ⟨hw1, hw2⟩ := Prod.mk.inj hw.symm; subst hw1; subst hw2
            replace hP := m_back ht hB
            replace hD := mw_D s22 hD
            clear hB hk hz hvm ht hFc; generalize H1 = H at hP hS ⊢
            refine lv_if_ne (tgt := 132) hx hb dX1_faultOf_127 (by decide) (fun c127 => ?_) (fun c127 => ?_)
            · have hf := dz_f c127 hf
              refine lv_aload_n hx hb dX1_faultOf_132 rfl (lv_at hl 3 rfl) ?_
              refine lv_iload_n hx hb dX1_faultOf_133 rfl (lv_at hl 4 rfl) ?_
              obtain ⟨x23, s24, hx23, hf⟩ := dz_co hf
              have hFc := dz_free hD hS hA
              refine va_calli (va_runV (As := [.int a0]) (rest := []) ⟨hx, hb, hml, hown, hts⟩ (mtX1_isFit l D cl ci hci h ad cA H.size s22 a0 K (x23, s24) hx23) (cwV 1 hts (lw_V q1813 q1815 qs40 q88 q1816) rfl rfl rfl (by decide +kernel) ⟨Nat.le_of_ble_eq_true rfl, Nat.le_of_ble_eq_true rfl⟩) (m_preV hci hK hP hD) rfl rfl hl.1 rfl (lv_room (Nat.le_of_ble_eq_true rfl)) dX1_faultOf_134 ⟨Nat.le_refl _, Nat.le_refl _⟩) hS (fun q _ hq => hFc q hq) hFc (fun r u t H1 locs ht hvm hw hB hz hk hS => ?_)
              obtain ⟨hw1, hw2⟩ := Prod.mk.inj hw.symm; subst hw1; subst hw2
              replace hP := m_back ht hB
              replace hD := mw_D s24 hD
              clear hB hk hz hvm ht hFc; generalize H1 = H at hP hS ⊢
              refine lv_if_ne (tgt := 142) hx hb dX1_faultOf_137 (by decide) (fun c137 => ?_) (fun c137 => ?_)
              · have hf := dz_f c137 hf
                refine lv_aload_n hx hb dX1_faultOf_142 rfl (lv_at hl 3 rfl) ?_
                refine lv_iload_n hx hb dX1_faultOf_143 rfl (lv_at hl 4 rfl) ?_
                obtain ⟨x25, s26, hx25, hf⟩ := dz_co hf
                have hFc := dz_free hD hS hA
                refine va_calli (va_runV (As := [.int a0]) (rest := []) ⟨hx, hb, hml, hown, hts⟩ (mtX1_isEnough l D cl ci hci h ad cA H.size s24 a0 K (x25, s26) hx25) (cwV 1 hts (lw_V q1830 q1832 qs44 q88 q1833) rfl rfl rfl (by decide +kernel) ⟨Nat.le_of_ble_eq_true rfl, Nat.le_of_ble_eq_true rfl⟩) (m_preV hci hK hP hD) rfl rfl hl.1 rfl (lv_room (Nat.le_of_ble_eq_true rfl)) dX1_faultOf_144 ⟨Nat.le_refl _, Nat.le_refl _⟩) hS (fun q _ hq => hFc q hq) hFc (fun r u t H1 locs ht hvm hw hB hz hk hS => ?_)
                obtain ⟨hw1, hw2⟩ := Prod.mk.inj hw.symm; subst hw1; subst hw2
                replace hP := m_back ht hB
                replace hD := mw_D s26 hD
                clear hB hk hz hvm ht hFc; generalize H1 = H at hP hS ⊢
                refine lv_if_ne (tgt := 152) hx hb dX1_faultOf_147 (by decide) (fun c147 => ?_) (fun c147 => ?_)
                · have hf := dz_f c147 hf
                  refine lv_iload hx hb dX1_faultOf_152 (lv_at hl 0 rfl) ?_
                  refine lv_istore (lv' := [(5, .int x6), (4, .int x6), (3, .int x4), (2, .int x2), (0, .ref h), (1, .int a0)]) hx hb dX1_faultOf_154 hl (by decide) rfl (fun ls hl => ?_)
                  exact ih.1 a0 x2 x4 x6 x6 s26 H locs hP hD hS ls (lv_sub hl [4, 5, 3, 2, 1, 0] rfl) hf
                · have hf := dz_t c147 hf
                  refine lv_iconst (v := 4) hx hb dX1_faultOf_150 (by decide) ?_
                  exact W.iret (v := 4) hx hb hr (fun t ht hW => ⟨⟨4, s26, rfl, Option.some.inj hf, by rw [ht]; exact hP, va_K.moved hW.alike hK, hD⟩, hS.F ht⟩) hS.2.2 dX1_faultOf_151
              · have hf := dz_t c137 hf
                refine lv_iconst (v := 3) hx hb dX1_faultOf_140 (by decide) ?_
                exact W.iret (v := 3) hx hb hr (fun t ht hW => ⟨⟨3, s24, rfl, Option.some.inj hf, by rw [ht]; exact hP, va_K.moved hW.alike hK, hD⟩, hS.F ht⟩) hS.2.2 dX1_faultOf_141
            · have hf := dz_t c127 hf
              refine lv_iconst (v := 2) hx hb dX1_faultOf_130 (by decide) ?_
              exact W.iret (v := 2) hx hb hr (fun t ht hW => ⟨⟨2, s22, rfl, Option.some.inj hf, by rw [ht]; exact hP, va_K.moved hW.alike hK, hD⟩, hS.F ht⟩) hS.2.2 dX1_faultOf_131
        · have hf := dz_f c85 hf
          refine lv_iconst (v := 2) hx hb dX1_faultOf_88 (by decide) ?_
          exact W.iret (v := 2) hx hb hr (fun t ht hW => ⟨⟨2, s14, rfl, Option.some.inj hf, by rw [ht]; exact hP, va_K.moved hW.alike hK, hD⟩, hS.F ht⟩) hS.2.2 dX1_faultOf_89
    · have hf := dz_t c41 hf
      refine lv_iconst (v := 1) hx hb dX1_faultOf_44 (by decide) ?_
      exact W.iret (v := 1) hx hb hr (fun t ht hW => ⟨⟨1, σ, rfl, Option.some.inj hf, by rw [ht]; exact hP, va_K.moved hW.alike hK, hD⟩, hS.F ht⟩) hS.2.2 dX1_faultOf_45
  · have hf := dz_t c15 hf
    refine lv_iload_n hx hb dX1_faultOf_18 rfl (lv_at hl 1 rfl) ?_
    refine lv_bipush (v := 100) hx hb dX1_faultOf_19 (by decide) ?_
    refine lv_icmp_ge (tgt := 36) hx hb dX1_faultOf_21 (by decide) (fun c21 => ?_) (fun c21 => ?_)
    · have hf := dz_t c21 hf
      refine lv_iconst (v := 1) hx hb dX1_faultOf_36 (by decide) ?_
      exact W.iret (v := 1) hx hb hr (fun t ht hW => ⟨⟨1, σ, rfl, Option.some.inj hf, by rw [ht]; exact hP, va_K.moved hW.alike hK, hD⟩, hS.F ht⟩) hS.2.2 dX1_faultOf_37
    · have hf := dz_f c21 hf
      refine lv_iload_n hx hb dX1_faultOf_24 rfl (lv_at hl 1 rfl) ?_
      refine lv_i2l hx hb dX1_faultOf_25 (rfl : _ = Int32.toInt64 x2) ?_
      obtain ⟨x27, hx27, hf⟩ := dz_bo hf
      refine va_calli (va_runS (As := [.long (Int32.toInt64 x2)]) (rest := []) ⟨hx, hb, hml, hown, hts⟩ (mtX1_isPrime l (Int32.toInt64 x2) K x27 hx27) (va_cwS 1 hts (lw_S q1799 q1800 q88 q1801) rfl rfl rfl (by decide +kernel) ⟨Nat.le_of_ble_eq_true rfl, Nat.le_of_ble_eq_true rfl⟩) ⟨fun a U g mk q => q, fun U hU hW => ⟨rfl, trivial⟩⟩ rfl rfl hl.1 rfl (lv_room (Nat.le_of_ble_eq_true rfl)) dX1_faultOf_26 ⟨Nat.le_refl _, Nat.le_refl _⟩) hS (fun q _ hq => hq.elim) (fun q hq => hq.elim) (fun r u t H1 locs ht hvm hw hB hz hk hS => ?_)
      replace hw := hw.symm; subst hw
      replace hP := dz_keep hP hk
      clear hB hk hz hvm ht; generalize H1 = H at hP hS ⊢
      refine lv_if_eq (tgt := 36) hx hb dX1_faultOf_29 (by decide) (fun c29 => ?_) (fun c29 => ?_)
      · have hf := dz_t c29 hf
        refine lv_iconst (v := 1) hx hb dX1_faultOf_36 (by decide) ?_
        exact W.iret (v := 1) hx hb hr (fun t ht hW => ⟨⟨1, σ, rfl, Option.some.inj hf, by rw [ht]; exact hP, va_K.moved hW.alike hK, hD⟩, hS.F ht⟩) hS.2.2 dX1_faultOf_37
      · have hf := dz_f c29 hf
        refine lv_iconst (v := 0) hx hb dX1_faultOf_32 (by decide) ?_
        refine lv_goto (tgt := 37) hx hb dX1_faultOf_33 (by decide) ?_
        exact W.iret (v := 0) hx hb hr (fun t ht hW => ⟨⟨0, σ, rfl, Option.some.inj hf, by rw [ht]; exact hP, va_K.moved hW.alike hK, hD⟩, hS.F ht⟩) hS.2.2 dX1_faultOf_37

noncomputable def lfX1_laysRight (K : Nat) : Nat → (Int32 → pM → Option pM) := Nat.rec (motive := fun _ => (Int32 → pM → Option pM)) (fun _ _ => none) (fun _ G => (fun v1 σ => dz_l (σ.1 7) fun x1 => if x1 ≤ v1 then (some σ) else (dz_c (fnX1_faultOf K v1 σ) fun x2 s3 => if ¬ (v1 < 0 ∨ 60 ≤ Int32.toNatClampNeg v1) then (dz_l (mI s3 20 (Int32.toNatClampNeg v1) x2) fun s5 => if ¬ (v1 < 0 ∨ 60 ≤ Int32.toNatClampNeg v1) then (dz_l (s5.2.2.1 20 (Int32.toNatClampNeg v1)) fun x7 => if x7 = (0 : Int32) then (if ¬ (v1 < 0 ∨ 60 ≤ Int32.toNatClampNeg v1) then (dz_l (mI s5 19 (Int32.toNatClampNeg v1) (vp_nar .boolean 1)) fun s12 => dz_l (v1 + 1) fun x13 => G x13 s12) else none) else (if ¬ (v1 < 0 ∨ 60 ≤ Int32.toNatClampNeg v1) then (dz_l (mI s5 19 (Int32.toNatClampNeg v1) (vp_nar .boolean 0)) fun s9 => dz_l (v1 + 1) fun x10 => G x10 s9) else none)) else none) else none)))
noncomputable def fnX1_laysRight (K : Nat)  (σ : pM) : Option pM := (lfX1_laysRight K K) 0 σ
set_option maxHeartbeats 4000000 in
set_option maxRecDepth 100000 in
theorem wlX1_laysRight {p : Program} {l : Launch} {e : Env} {s : State} {m : MethodId} {below : List Frame} {meth : Method} {c : Code} {D : va_G} {cl : List vw_C} {ci : Nat} (hci : cl[ci]? = some (RX1, TX1, 35)) {h : Nat} {ad : Nat → Nat} {cA : Nat → ClassId} {A : Nat → Prop} (hA : ∀ q : Nat, s.heap.size ≤ q → A q) (hK : va_K D cl (mtys cA) s) (K : Nat) (res : pM)  (hx : p.tables.exec = Jvm.exec) (hb : c.code = cX1_laysRight) (hr : meth.sig.returnType = none) (hlocks : meth.locks = false) (hml : c.maxLocals = 2) (hown : s.vm.findClass RX1 = some m.cls) (hts : ∀ w ∈ lw_all, w.before ([.ref h] : List Value).toArray s = true) : ∀ k : Nat, (∀ (v1 : Int32) (σ : pM) (H : Heap) (locs : List Loc), va_P D cl (mw ci h ad cA σ) H → va_D A (mw ci h ad cA σ) → va_S A s.heap H locs → ∀ (ls : Array Slot), lv_has ls 2 [(0, .ref h), (1, .int v1)] → (lfX1_laysRight K k) v1 σ = some res → W p l e (headSpec (ws_ yX1_laysRight cX1_laysRight 2 (none)) ({ frames := 4, cells := 0, slots := 0, locals := 109 })).room s m ([.ref h] : List Value).toArray below meth c H locs 0 0 (MQ below (mQv D cl ci h ad cA A res) ([.ref h] : List Value).toArray s 0 0 A) (F0 m 2 ls [])) := by
  intro k
  induction k with
  | zero =>
    exact fun _ _ _ _ _ _ _ _ _ hf => (by cases hf)
  | succ k ih =>
    · intro v1 σ H locs hP hD hS ls hl hf
      have hf : (dz_l (σ.1 7) fun x1 => if x1 ≤ v1 then (some σ) else (dz_c (fnX1_faultOf K v1 σ) fun x2 s3 => if ¬ (v1 < 0 ∨ 60 ≤ Int32.toNatClampNeg v1) then (dz_l (mI s3 20 (Int32.toNatClampNeg v1) x2) fun s5 => if ¬ (v1 < 0 ∨ 60 ≤ Int32.toNatClampNeg v1) then (dz_l (s5.2.2.1 20 (Int32.toNatClampNeg v1)) fun x7 => if x7 = (0 : Int32) then (if ¬ (v1 < 0 ∨ 60 ≤ Int32.toNatClampNeg v1) then (dz_l (mI s5 19 (Int32.toNatClampNeg v1) (vp_nar .boolean 1)) fun s12 => dz_l (v1 + 1) fun x13 => (lfX1_laysRight K k) x13 s12) else none) else (if ¬ (v1 < 0 ∨ 60 ≤ Int32.toNatClampNeg v1) then (dz_l (mI s5 19 (Int32.toNatClampNeg v1) (vp_nar .boolean 0)) fun s9 => dz_l (v1 + 1) fun x10 => (lfX1_laysRight K k) x10 s9) else none)) else none) else none) : Option pM) = some res := hf
      refine lv_iload_n hx hb dX1_laysRight_2 rfl (lv_at hl 1 rfl) ?_
      refine lv_aload_n hx hb dX1_laysRight_3 rfl (lv_at hl 0 rfl) ?_
      refine va_get (C := RX1) (T := TX1) (N := 35) (fs := mwF ad σ) (v := .int (σ.1 7)) hx hb hts in_X1 hown hK hP 0 rfl hci 7 (by decide) (hts _ q1678) (fun _ hq => hq) rfl dX1_laysRight_4 ?_
      refine lv_topi (fun x1 e_x1 => ?_)
      have hf := dz_ls e_x1 hf
      refine lv_icmp_ge (tgt := 47) hx hb dX1_laysRight_7 (by decide) (fun c7 => ?_) (fun c7 => ?_)
      · have hf := dz_t c7 hf
        exact W.vret hx hb hr (fun t ht hW => ⟨⟨σ, rfl, Option.some.inj hf, by rw [ht]; exact hP, va_K.moved hW.alike hK, hD⟩, hS.F ht⟩) hS.2.2 dX1_laysRight_47
      · have hf := dz_f c7 hf
        refine lv_aload_n hx hb dX1_laysRight_10 rfl (lv_at hl 0 rfl) ?_
        refine va_get (C := RX1) (T := TX1) (N := 35) (fs := mwF ad σ) (v := .ref (ad 20)) hx hb hts in_X1 hown hK hP 0 rfl hci 20 (by decide) (hts _ q1691) (fun _ hq => hq) rfl dX1_laysRight_11 ?_
        refine lv_iload_n hx hb dX1_laysRight_14 rfl (lv_at hl 1 rfl) ?_
        refine lv_aload_n hx hb dX1_laysRight_15 rfl (lv_at hl 0 rfl) ?_
        refine lv_iload_n hx hb dX1_laysRight_16 rfl (lv_at hl 1 rfl) ?_
        obtain ⟨x2, s3, hx2, hf⟩ := dz_co hf
        have hFc := dz_free hD hS hA
        refine va_calli (va_runV (As := [.int v1]) (rest := [.int v1, .ref (ad 20)]) ⟨hx, hb, hml, hown, hts⟩ (mtX1_faultOf l D cl ci hci h ad cA H.size σ v1 K (x2, s3) hx2) (cwV 1 hts (lw_V q1795 q1797 qs37 q88 q1798) rfl rfl rfl (by decide +kernel) ⟨Nat.le_of_ble_eq_true rfl, Nat.le_of_ble_eq_true rfl⟩) (m_preV hci hK hP hD) rfl rfl hl.1 rfl (lv_room (Nat.le_of_ble_eq_true rfl)) dX1_laysRight_17 ⟨Nat.le_refl _, Nat.le_refl _⟩) hS (fun q _ hq => hFc q hq) hFc (fun r u t H1 locs ht hvm hw hB hz hk hS => ?_)
        obtain ⟨hw1, hw2⟩ := Prod.mk.inj hw.symm; subst hw1; subst hw2
        replace hP := m_back ht hB
        replace hD := mw_D s3 hD
        clear hB hk hz hvm ht hFc; generalize H1 = H at hP hS ⊢
        obtain ⟨g4, hf⟩ := dz_go hf
        refine va_iast hx hb hK hP hD hS 18 0 rfl rfl g4 dX1_laysRight_20 (fun H locs hP1 _ hS => ?_)
        obtain ⟨s5, e_s5, hf⟩ := dz_lo hf
        have hP : va_P D cl (mw ci h ad cA s5) H := by rw [e_s5]; exact hP1
        clear hP1; replace hD := mw_D s5 hD
        refine lv_aload_n hx hb dX1_laysRight_21 rfl (lv_at hl 0 rfl) ?_
        refine va_get (C := RX1) (T := TX1) (N := 35) (fs := mwF ad s5) (v := .ref (ad 19)) hx hb hts in_X1 hown hK hP 0 rfl hci 19 (by decide) (hts _ q1690) (fun _ hq => hq) rfl dX1_laysRight_22 ?_
        refine lv_iload_n hx hb dX1_laysRight_25 rfl (lv_at hl 1 rfl) ?_
        refine lv_aload_n hx hb dX1_laysRight_26 rfl (lv_at hl 0 rfl) ?_
        refine va_get (C := RX1) (T := TX1) (N := 35) (fs := mwF ad s5) (v := .ref (ad 20)) hx hb hts in_X1 hown hK hP 0 rfl hci 20 (by decide) (hts _ q1691) (fun _ hq => hq) rfl dX1_laysRight_27 ?_
        refine lv_iload_n hx hb dX1_laysRight_30 rfl (lv_at hl 1 rfl) ?_
        obtain ⟨g6, hf⟩ := dz_go hf
        refine va_iald hx hb hK hP 18 0 rfl rfl g6 dX1_laysRight_31 ?_
        refine lv_topi (fun x7 e_x7 => ?_)
        have hf := dz_ls e_x7 hf
        refine lv_if_ne (tgt := 39) hx hb dX1_laysRight_32 (by decide) (fun c32 => ?_) (fun c32 => ?_)
        · have hf := dz_f c32 hf
          refine lv_iconst (v := 0) hx hb dX1_laysRight_39 (by decide) ?_
          obtain ⟨g8, hf⟩ := dz_go hf
          refine va_zast hx hb hK hP hD hS 17 2 rfl rfl g8 dX1_laysRight_40 (fun H locs hP1 _ hS => ?_)
          obtain ⟨s9, e_s9, hf⟩ := dz_lo hf
          have hP : va_P D cl (mw ci h ad cA s9) H := by rw [e_s9]; exact hP1
          clear hP1; replace hD := mw_D s9 hD
          obtain ⟨x10, e_x10, hf⟩ := dz_lo hf
          refine lv_iinc (v := x10) (lv' := [(1, .int x10), (0, .ref h)]) hx hb dX1_laysRight_41 hl (k := 1) rfl (by rw [e_x10]; rfl) (by decide) rfl (fun ls hl => ?_)
          refine lv_goto (tgt := 2) hx hb dX1_laysRight_44 (by decide) ?_
          exact ih x10 s9 H locs hP hD hS ls (lv_sub hl [1, 0] rfl) hf
        · have hf := dz_t c32 hf
          refine lv_iconst (v := 1) hx hb dX1_laysRight_35 (by decide) ?_
          refine lv_goto (tgt := 40) hx hb dX1_laysRight_36 (by decide) ?_
          obtain ⟨g11, hf⟩ := dz_go hf
          refine va_zast hx hb hK hP hD hS 17 2 rfl rfl g11 dX1_laysRight_40 (fun H locs hP1 _ hS => ?_)
          obtain ⟨s12, e_s12, hf⟩ := dz_lo hf
          have hP : va_P D cl (mw ci h ad cA s12) H := by rw [e_s12]; exact hP1
          clear hP1; replace hD := mw_D s12 hD
          obtain ⟨x13, e_x13, hf⟩ := dz_lo hf
          refine lv_iinc (v := x13) (lv' := [(1, .int x13), (0, .ref h)]) hx hb dX1_laysRight_41 hl (k := 1) rfl (by rw [e_x13]; rfl) (by decide) rfl (fun ls hl => ?_)
          refine lv_goto (tgt := 2) hx hb dX1_laysRight_44 (by decide) ?_
          exact ih x13 s12 H locs hP hD hS ls (lv_sub hl [1, 0] rfl) hf
set_option maxHeartbeats 4000000 in
set_option maxRecDepth 100000 in
theorem mtX1_laysRight (l : Launch) (D : va_G) (cl : List vw_C) (ci : Nat) (hci : cl[ci]? = some (RX1, TX1, 35)) (h : Nat) (ad : Nat → Nat) (cA : Nat → ClassId) (sz : Nat) (σ : pM)  (K : Nat) (res : pM) (hf : fnX1_laysRight K  σ = some res) : Met l yX1_laysRight (ws_ yX1_laysRight cX1_laysRight 2 (none)) ({ frames := 4, cells := 0, slots := 0, locals := 109 }) (mPc D cl ci h ad cA sz σ [.ref h]) (mQv D cl ci h ad cA (va_A (mw ci h ad cA σ) sz) res) 0 0 (va_A (mw ci h ad cA σ) sz) := by
  refine Met.ofW (cc := cX1_laysRight) (maxL := 2) (ret := none) (by decide +kernel) rfl ?_
  intro p e s m args below meth c s₁ B hml hv
  obtain ⟨rfl, hsz, hP, hK, hD0⟩ := hv
  have hx := B.exec
  have hb := B.bytes
  have hr := B.returns
  have hts := atoms_spec (ws := ws_ yX1_laysRight cX1_laysRight 2 (none)) B.pre
  have hts : ∀ w ∈ lw_all, w.before _ s = true := fun w h => hts w (List.mem_cons_of_mem _ h)
  have hown : s.vm.findClass RX1 = some m.cls := findClass_of_methodNamed B.named
  have hlocks := B.notSynchronized
  subst hsz
  have hD := hD0.self (sz := s.heap.size)
  generalize hAe : va_A (mw ci h ad cA σ) s.heap.size = A at hD ⊢
  have hA : ∀ q : Nat, s.heap.size ≤ q → A q := fun q h => by rw [← hAe]; exact Or.inr h
  clear hAe hD0
  have hS : va_S A s.heap s.heap [] := va_S.rf
  generalize hHe : s.heap = H at hP hS ⊢
  have hS : va_S A s.heap H [] := by rw [hHe]; exact hS
  generalize ([] : List Loc) = locs at hS ⊢
  have hl := lv_entry ([.ref h]) (n := 2) (Nat.le_of_ble_eq_true rfl)
  rw [lg_entry_eq]
  generalize (lg_sl ([.ref h]) ++ List.replicate (2 - (lg_sl ([.ref h])).length) Slot.unset).toArray = ls at hl ⊢
  have hl : lv_has ls 2 [(0, .ref h)] := hl
  have hf : ((lfX1_laysRight K K) 0 σ : Option pM) = some res := hf
  have ih := wlX1_laysRight (l := l) (e := e) (below := below) (h := h) (ad := ad) (cA := cA) hci hA hK K res  hx hb hr hlocks hml hown hts K
  refine lv_iconst (v := 0) hx hb dX1_laysRight_0 (by decide) ?_
  refine lv_istore_n (lv' := [(1, .int 0), (0, .ref h)]) hx hb dX1_laysRight_1 rfl hl (by decide) rfl (fun ls hl => ?_)
  exact ih 0 σ H locs hP hD hS ls (lv_sub hl [1, 0] rfl) hf

