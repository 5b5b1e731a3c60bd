noncomputable def lfX1_set (K : Nat) : Nat → (Int32 → Int32 → Int32 → pM → Option (Int32 × pM)) × (Int32 → Int32 → Int32 → pM → Option (Int32 × pM)) := Nat.rec (motive := fun _ => (Int32 → Int32 → Int32 → pM → Option (Int32 × pM)) × (Int32 → Int32 → Int32 → pM → Option (Int32 × pM))) ((fun _ _ _ _ => none), (fun _ _ _ _ => none)) (fun _ G => ((fun v1 v2 v3 σ => if v2 = (0 : Int32) then (dz_b (fnX1_isNumber K (Int32.toInt64 v3)) fun x2 => if x2 = (0 : Int32) then (some ((-1), σ)) else (G.2 v1 v2 v3 σ)) else (dz_b (fnX1_in K (Int32.toInt64 v3) 1 99) fun x1 => if x1 = (0 : Int32) then (some ((-1), σ)) else (G.2 v1 v2 v3 σ))), (fun v1 v2 v3 σ => if v2 = (0 : Int32) then (if ¬ (v1 < 0 ∨ 116 ≤ Int32.toNatClampNeg v1) then (dz_l (σ.2.2.1 8 (Int32.toNatClampNeg v1)) fun x18 => if v2 = (0 : Int32) then (if ¬ (v1 < 0 ∨ 116 ≤ Int32.toNatClampNeg v1) then (dz_l (mI σ 8 (Int32.toNatClampNeg v1) v3) fun s24 => some (x18, s24)) else none) else (if v2 = (1 : Int32) then (if ¬ (v1 < 0 ∨ 116 ≤ Int32.toNatClampNeg v1) then (dz_l (mI σ 10 (Int32.toNatClampNeg v1) v3) fun s22 => some (x18, s22)) else none) else (if ¬ (v1 < 0 ∨ 116 ≤ Int32.toNatClampNeg v1) then (dz_l (mI σ 11 (Int32.toNatClampNeg v1) v3) fun s20 => some (x18, s20)) else none))) else none) else (if v2 = (1 : Int32) then (if ¬ (v1 < 0 ∨ 116 ≤ Int32.toNatClampNeg v1) then (dz_l (σ.2.2.1 10 (Int32.toNatClampNeg v1)) fun x10 => if v2 = (0 : Int32) then (if ¬ (v1 < 0 ∨ 116 ≤ Int32.toNatClampNeg v1) then (dz_l (mI σ 8 (Int32.toNatClampNeg v1) v3) fun s16 => some (x10, s16)) else none) else (if v2 = (1 : Int32) then (if ¬ (v1 < 0 ∨ 116 ≤ Int32.toNatClampNeg v1) then (dz_l (mI σ 10 (Int32.toNatClampNeg v1) v3) fun s14 => some (x10, s14)) else none) else (if ¬ (v1 < 0 ∨ 116 ≤ Int32.toNatClampNeg v1) then (dz_l (mI σ 11 (Int32.toNatClampNeg v1) v3) fun s12 => some (x10, s12)) else none))) else none) else (if ¬ (v1 < 0 ∨ 116 ≤ Int32.toNatClampNeg v1) then (dz_l (σ.2.2.1 11 (Int32.toNatClampNeg v1)) fun x2 => if v2 = (0 : Int32) then (if ¬ (v1 < 0 ∨ 116 ≤ Int32.toNatClampNeg v1) then (dz_l (mI σ 8 (Int32.toNatClampNeg v1) v3) fun s8 => some (x2, s8)) else none) else (if v2 = (1 : Int32) then (if ¬ (v1 < 0 ∨ 116 ≤ Int32.toNatClampNeg v1) then (dz_l (mI σ 10 (Int32.toNatClampNeg v1) v3) fun s6 => some (x2, s6)) else none) else (if ¬ (v1 < 0 ∨ 116 ≤ Int32.toNatClampNeg v1) then (dz_l (mI σ 11 (Int32.toNatClampNeg v1) v3) fun s4 => some (x2, s4)) else none))) else none)))))
noncomputable def fnX1_set (K : Nat) (a0 : Int32) (a1 : Int32) (a2 : Int32) (σ : pM) : Option (Int32 × pM) := dz_c (fnX1_isLine K a0 σ) fun x1 s2 => if x1 = (0 : Int32) then (some ((-1), s2)) else (dz_b (fnX1_in K (Int32.toInt64 a1) 0 2) fun x3 => if x3 = (0 : Int32) then (some ((-1), s2)) else (if a1 ≤ (0 : Int32) then ((lfX1_set K K).1 a0 a1 a2 s2) else (if ¬ (a0 < 0 ∨ 116 ≤ Int32.toNatClampNeg a0) then (dz_l (s2.2.2.1 9 (Int32.toNatClampNeg a0)) fun x5 => dz_b (fnX1_hasPair K x5) fun x6 => if x6 = (0 : Int32) then (some ((-1), s2)) else ((lfX1_set K K).1 a0 a1 a2 s2)) else none)))
set_option maxHeartbeats 4000000 in
set_option maxRecDepth 100000 in
theorem wlX1_set {p : Program} {l : Launch} {e : Env} {s : State} {m : MethodId} {below : List Frame} {meth : Method} {c : Code} {D : va_G} {cl : List vw_C} {ci : Nat} (hci : cl[ci]? = some (RX1, TX1, 35)) {h : Nat} {ad : Nat → Nat} {cA : Nat → ClassId} {A : Nat → Prop} (hA : ∀ q : Nat, s.heap.size ≤ q → A q) (hK : va_K D cl (mtys cA) s) (K : Nat) (res : (Int32 × pM)) (a0 : Int32) (a1 : Int32) (a2 : Int32) (hx : p.tables.exec = Jvm.exec) (hb : c.code = cX1_set) (hr : meth.sig.returnType = some .int) (hlocks : meth.locks = false) (hml : c.maxLocals = 5) (hown : s.vm.findClass RX1 = some m.cls) (hts : ∀ w ∈ lw_all, w.before ([.ref h, .int a0, .int a1, .int a2] : List Value).toArray s = true) : ∀ k : Nat, (∀ (v1 : Int32) (v2 : Int32) (v3 : Int32) (σ : pM) (H : Heap) (locs : List Loc), va_P D cl (mw ci h ad cA σ) H → va_D A (mw ci h ad cA σ) → va_S A s.heap H locs → ∀ (ls : Array Slot), lv_has ls 5 [(0, .ref h), (1, .int v1), (2, .int v2), (3, .int v3)] → (lfX1_set K k).1 v1 v2 v3 σ = some res → W p l e (headSpec (ws_ yX1_set cX1_set 5 (some .int)) ({ frames := 2, cells := 0, slots := 0, locals := 46 })).room s m ([.ref h, .int a0, .int a1, .int a2] : List Value).toArray below meth c H locs 0 0 (MQ below (mQi D cl ci h ad cA A res) ([.ref h, .int a0, .int a1, .int a2] : List Value).toArray s 0 0 A) (F0 m 38 ls [])) ∧ (∀ (v1 : Int32) (v2 : Int32) (v3 : Int32) (σ : pM) (H : Heap) (locs : List Loc), va_P D cl (mw ci h ad cA σ) H → va_D A (mw ci h ad cA σ) → va_S A s.heap H locs → ∀ (ls : Array Slot), lv_has ls 5 [(0, .ref h), (1, .int v1), (2, .int v2), (3, .int v3)] → (lfX1_set K k).2 v1 v2 v3 σ = some res → W p l e (headSpec (ws_ yX1_set cX1_set 5 (some .int)) ({ frames := 2, cells := 0, slots := 0, locals := 46 })).room s m ([.ref h, .int a0, .int a1, .int a2] : List Value).toArray below meth c H locs 0 0 (MQ below (mQi D cl ci h ad cA A res) ([.ref h, .int a0, .int a1, .int a2] : List Value).toArray s 0 0 A) (F0 m 67 ls [])) := by
  intro k
  induction k with
  | zero =>
    exact ⟨fun _ _ _ _ _ _ _ _ _ _ _ hf => (by cases hf), fun _ _ _ _ _ _ _ _ _ _ _ hf => (by cases hf)⟩
  | succ k ih =>
    refine ⟨?_, ?_⟩
    · intro v1 v2 v3 σ H locs hP hD hS ls hl hf
      have hf : (if v2 = (0 : Int32) then (dz_b (fnX1_isNumber K (Int32.toInt64 v3)) fun x2 => if x2 = (0 : Int32) then (some ((-1), σ)) else ((lfX1_set K k).2 v1 v2 v3 σ)) else (dz_b (fnX1_in K (Int32.toInt64 v3) 1 99) fun x1 => if x1 = (0 : Int32) then (some ((-1), σ)) else ((lfX1_set K k).2 v1 v2 v3 σ)) : Option (Int32 × pM)) = some res := hf
      refine lv_iload_n hx hb dX1_set_38 rfl (lv_at hl 2 rfl) ?_
      refine lv_if_ne (tgt := 53) hx hb dX1_set_39 (by decide) (fun c39 => ?_) (fun c39 => ?_)
      · have hf := dz_f c39 hf
        refine lv_iload_n hx hb dX1_set_53 rfl (lv_at hl 3 rfl) ?_
        refine lv_i2l hx hb dX1_set_54 (rfl : _ = Int32.toInt64 v3) ?_
        refine lv_lconst (v := 1) hx hb dX1_set_55 rfl ?_
        refine lv_ldc2 (v := 99) hx hb hown (hts _ q2025) dX1_set_56 ?_
        obtain ⟨x1, hx1, hf⟩ := dz_bo hf
        refine va_calli (va_runS (As := [.long (Int32.toInt64 v3), .long 1, .long 99]) (rest := []) ⟨hx, hb, hml, hown, hts⟩ (mtX1_in l (Int32.toInt64 v3) 1 99 K x1 hx1) (va_cwS 3 hts (lw_S q1783 q1784 q88 q1785) rfl rfl rfl (by decide +kernel) ⟨Nat.le_of_ble_eq_true rfl, Nat.le_of_ble_eq_true rfl⟩) ⟨fun a U g mk q => q, fun U hU hW => ⟨rfl, trivial⟩⟩ rfl rfl hl.1 rfl (lv_room (Nat.le_of_ble_eq_true rfl)) dX1_set_59 ⟨Nat.le_refl _, Nat.le_refl _⟩) hS (fun q _ hq => hq.elim) (fun q hq => hq.elim) (fun r u t H1 locs ht hvm hw hB hz hk hS => ?_)
        replace hw := hw.symm; subst hw
        replace hP := dz_keep hP hk
        clear hB hk hz hvm ht; generalize H1 = H at hP hS ⊢
        refine lv_if_ne (tgt := 67) hx hb dX1_set_62 (by decide) (fun c62 => ?_) (fun c62 => ?_)
        · have hf := dz_f c62 hf
          exact ih.2 v1 v2 v3 σ H locs hP hD hS ls (lv_sub hl [0, 1, 2, 3] rfl) hf
        · have hf := dz_t c62 hf
          refine lv_iconst (v := (-1)) hx hb dX1_set_65 (by decide) ?_
          exact W.iret (v := (-1)) hx hb hr (fun t ht hW => ⟨⟨(-1), σ, rfl, Option.some.inj hf, by rw [ht]; exact hP, va_K.moved hW.alike hK, hD⟩, hS.F ht⟩) hS.2.2 dX1_set_66
      · have hf := dz_t c39 hf
        refine lv_iload_n hx hb dX1_set_42 rfl (lv_at hl 3 rfl) ?_
        refine lv_i2l hx hb dX1_set_43 (rfl : _ = Int32.toInt64 v3) ?_
        obtain ⟨x2, hx2, hf⟩ := dz_bo hf
        refine va_calli (va_runS (As := [.long (Int32.toInt64 v3)]) (rest := []) ⟨hx, hb, hml, hown, hts⟩ (mtX1_isNumber l (Int32.toInt64 v3) K x2 hx2) (va_cwS 1 hts (lw_S q1786 q1787 q88 q1788) rfl rfl rfl (by decide +kernel) ⟨Nat.le_of_ble_eq_true rfl, Nat.le_of_ble_eq_true rfl⟩) ⟨fun a U g mk q => q, fun U hU hW => ⟨rfl, trivial⟩⟩ rfl rfl hl.1 rfl (lv_room (Nat.le_of_ble_eq_true rfl)) dX1_set_44 ⟨Nat.le_refl _, Nat.le_refl _⟩) hS (fun q _ hq => hq.elim) (fun q hq => hq.elim) (fun r u t H1 locs ht hvm hw hB hz hk hS => ?_)
        replace hw := hw.symm; subst hw
        replace hP := dz_keep hP hk
        clear hB hk hz hvm ht; generalize H1 = H at hP hS ⊢
        refine lv_if_ne (tgt := 67) hx hb dX1_set_47 (by decide) (fun c47 => ?_) (fun c47 => ?_)
        · have hf := dz_f c47 hf
          exact ih.2 v1 v2 v3 σ H locs hP hD hS ls (lv_sub hl [0, 1, 2, 3] rfl) hf
        · have hf := dz_t c47 hf
          refine lv_goto (tgt := 65) hx hb dX1_set_50 (by decide) ?_
          refine lv_iconst (v := (-1)) hx hb dX1_set_65 (by decide) ?_
          exact W.iret (v := (-1)) hx hb hr (fun t ht hW => ⟨⟨(-1), σ, rfl, Option.some.inj hf, by rw [ht]; exact hP, va_K.moved hW.alike hK, hD⟩, hS.F ht⟩) hS.2.2 dX1_set_66
    · intro v1 v2 v3 σ H locs hP hD hS ls hl hf
      have hf : (if v2 = (0 : Int32) then (if ¬ (v1 < 0 ∨ 116 ≤ Int32.toNatClampNeg v1) then (dz_l (σ.2.2.1 8 (Int32.toNatClampNeg v1)) fun x18 => if v2 = (0 : Int32) then (if ¬ (v1 < 0 ∨ 116 ≤ Int32.toNatClampNeg v1) then (dz_l (mI σ 8 (Int32.toNatClampNeg v1) v3) fun s24 => some (x18, s24)) else none) else (if v2 = (1 : Int32) then (if ¬ (v1 < 0 ∨ 116 ≤ Int32.toNatClampNeg v1) then (dz_l (mI σ 10 (Int32.toNatClampNeg v1) v3) fun s22 => some (x18, s22)) else none) else (if ¬ (v1 < 0 ∨ 116 ≤ Int32.toNatClampNeg v1) then (dz_l (mI σ 11 (Int32.toNatClampNeg v1) v3) fun s20 => some (x18, s20)) else none))) else none) else (if v2 = (1 : Int32) then (if ¬ (v1 < 0 ∨ 116 ≤ Int32.toNatClampNeg v1) then (dz_l (σ.2.2.1 10 (Int32.toNatClampNeg v1)) fun x10 => if v2 = (0 : Int32) then (if ¬ (v1 < 0 ∨ 116 ≤ Int32.toNatClampNeg v1) then (dz_l (mI σ 8 (Int32.toNatClampNeg v1) v3) fun s16 => some (x10, s16)) else none) else (if v2 = (1 : Int32) then (if ¬ (v1 < 0 ∨ 116 ≤ Int32.toNatClampNeg v1) then (dz_l (mI σ 10 (Int32.toNatClampNeg v1) v3) fun s14 => some (x10, s14)) else none) else (if ¬ (v1 < 0 ∨ 116 ≤ Int32.toNatClampNeg v1) then (dz_l (mI σ 11 (Int32.toNatClampNeg v1) v3) fun s12 => some (x10, s12)) else none))) else none) else (if ¬ (v1 < 0 ∨ 116 ≤ Int32.toNatClampNeg v1) then (dz_l (σ.2.2.1 11 (Int32.toNatClampNeg v1)) fun x2 => if v2 = (0 : Int32) then (if ¬ (v1 < 0 ∨ 116 ≤ Int32.toNatClampNeg v1) then (dz_l (mI σ 8 (Int32.toNatClampNeg v1) v3) fun s8 => some (x2, s8)) else none) else (if v2 = (1 : Int32) then (if ¬ (v1 < 0 ∨ 116 ≤ Int32.toNatClampNeg v1) then (dz_l (mI σ 10 (Int32.toNatClampNeg v1) v3) fun s6 => some (x2, s6)) else none) else (if ¬ (v1 < 0 ∨ 116 ≤ Int32.toNatClampNeg v1) then (dz_l (mI σ 11 (Int32.toNatClampNeg v1) v3) fun s4 => some (x2, s4)) else none))) else none)) : Option (Int32 × pM)) = some res := hf
      refine lv_iload_n hx hb dX1_set_67 rfl (lv_at hl 2 rfl) ?_
      refine lv_if_ne (tgt := 80) hx hb dX1_set_68 (by decide) (fun c68 => ?_) (fun c68 => ?_)
      · have hf := dz_f c68 hf
        refine lv_iload_n hx hb dX1_set_80 rfl (lv_at hl 2 rfl) ?_
        refine lv_iconst (v := 1) hx hb dX1_set_81 (by decide) ?_
        refine lv_icmp_ne (tgt := 94) hx hb dX1_set_82 (by decide) (fun c82 => ?_) (fun c82 => ?_)
        · have hf := dz_f c82 hf
          refine lv_aload_n hx hb dX1_set_94 rfl (lv_at hl 0 rfl) ?_
          refine va_get (C := RX1) (T := TX1) (N := 35) (fs := mwF ad σ) (v := .ref (ad 11)) hx hb hts in_X1 hown hK hP 0 rfl hci 11 (by decide) (hts _ q1682) (fun _ hq => hq) rfl dX1_set_95 ?_
          refine lv_iload_n hx hb dX1_set_98 rfl (lv_at hl 1 rfl) ?_
          obtain ⟨g1, hf⟩ := dz_go hf
          refine va_iald hx hb hK hP 9 0 rfl rfl g1 dX1_set_99 ?_
          refine lv_topi (fun x2 e_x2 => ?_)
          have hf := dz_ls e_x2 hf
          refine lv_istore (lv' := [(4, .int x2), (0, .ref h), (1, .int v1), (2, .int v2), (3, .int v3)]) hx hb dX1_set_100 hl (by decide) rfl (fun ls hl => ?_)
          refine lv_iload_n hx hb dX1_set_102 rfl (lv_at hl 3 rfl) ?_
          refine lv_if_ne (tgt := 116) hx hb dX1_set_103 (by decide) (fun c103 => ?_) (fun c103 => ?_)
          · have hf := dz_f c103 hf
            refine lv_iload_n hx hb dX1_set_116 rfl (lv_at hl 3 rfl) ?_
            refine lv_iconst (v := 1) hx hb dX1_set_117 (by decide) ?_
            refine lv_icmp_ne (tgt := 131) hx hb dX1_set_118 (by decide) (fun c118 => ?_) (fun c118 => ?_)
            · have hf := dz_f c118 hf
              refine lv_aload_n hx hb dX1_set_131 rfl (lv_at hl 1 rfl) ?_
              refine va_get (C := RX1) (T := TX1) (N := 35) (fs := mwF ad σ) (v := .ref (ad 11)) hx hb hts in_X1 hown hK hP 0 rfl hci 11 (by decide) (hts _ q1682) (fun _ hq => hq) rfl dX1_set_132 ?_
              refine lv_iload_n hx hb dX1_set_135 rfl (lv_at hl 2 rfl) ?_
              refine lv_iload_n hx hb dX1_set_136 rfl (lv_at hl 4 rfl) ?_
              obtain ⟨g3, hf⟩ := dz_go hf
              refine va_iast hx hb hK hP hD hS 9 0 rfl rfl g3 dX1_set_137 (fun H locs hP1 _ hS => ?_)
              obtain ⟨s4, e_s4, hf⟩ := dz_lo hf
              have hP : va_P D cl (mw ci h ad cA s4) H := by rw [e_s4]; exact hP1
              clear hP1; replace hD := mw_D s4 hD
              refine lv_iload hx hb dX1_set_138 (lv_at hl 0 rfl) ?_
              exact W.iret (v := x2) hx hb hr (fun t ht hW => ⟨⟨x2, s4, rfl, Option.some.inj hf, by rw [ht]; exact hP, va_K.moved hW.alike hK, hD⟩, hS.F ht⟩) hS.2.2 dX1_set_140
            · have hf := dz_t c118 hf
              refine lv_aload_n hx hb dX1_set_121 rfl (lv_at hl 1 rfl) ?_
              refine va_get (C := RX1) (T := TX1) (N := 35) (fs := mwF ad σ) (v := .ref (ad 10)) hx hb hts in_X1 hown hK hP 0 rfl hci 10 (by decide) (hts _ q1681) (fun _ hq => hq) rfl dX1_set_122 ?_
              refine lv_iload_n hx hb dX1_set_125 rfl (lv_at hl 2 rfl) ?_
              refine lv_iload_n hx hb dX1_set_126 rfl (lv_at hl 4 rfl) ?_
              obtain ⟨g5, hf⟩ := dz_go hf
              refine va_iast hx hb hK hP hD hS 8 0 rfl rfl g5 dX1_set_127 (fun H locs hP1 _ hS => ?_)
              obtain ⟨s6, e_s6, hf⟩ := dz_lo hf
              have hP : va_P D cl (mw ci h ad cA s6) H := by rw [e_s6]; exact hP1
              clear hP1; replace hD := mw_D s6 hD
              refine lv_goto (tgt := 138) hx hb dX1_set_128 (by decide) ?_
              refine lv_iload hx hb dX1_set_138 (lv_at hl 0 rfl) ?_
              exact W.iret (v := x2) hx hb hr (fun t ht hW => ⟨⟨x2, s6, rfl, Option.some.inj hf, by rw [ht]; exact hP, va_K.moved hW.alike hK, hD⟩, hS.F ht⟩) hS.2.2 dX1_set_140
          · have hf := dz_t c103 hf
            refine lv_aload_n hx hb dX1_set_106 rfl (lv_at hl 1 rfl) ?_
            refine va_get (C := RX1) (T := TX1) (N := 35) (fs := mwF ad σ) (v := .ref (ad 8)) hx hb hts in_X1 hown hK hP 0 rfl hci 8 (by decide) (hts _ q1679) (fun _ hq => hq) rfl dX1_set_107 ?_
            refine lv_iload_n hx hb dX1_set_110 rfl (lv_at hl 2 rfl) ?_
            refine lv_iload_n hx hb dX1_set_111 rfl (lv_at hl 4 rfl) ?_
            obtain ⟨g7, hf⟩ := dz_go hf
            refine va_iast hx hb hK hP hD hS 6 0 rfl rfl g7 dX1_set_112 (fun H locs hP1 _ hS => ?_)
            obtain ⟨s8, e_s8, hf⟩ := dz_lo hf
            have hP : va_P D cl (mw ci h ad cA s8) H := by rw [e_s8]; exact hP1
            clear hP1; replace hD := mw_D s8 hD
            refine lv_goto (tgt := 138) hx hb dX1_set_113 (by decide) ?_
            refine lv_iload hx hb dX1_set_138 (lv_at hl 0 rfl) ?_
            exact W.iret (v := x2) hx hb hr (fun t ht hW => ⟨⟨x2, s8, rfl, Option.some.inj hf, by rw [ht]; exact hP, va_K.moved hW.alike hK, hD⟩, hS.F ht⟩) hS.2.2 dX1_set_140
        · have hf := dz_t c82 hf
          refine lv_aload_n hx hb dX1_set_85 rfl (lv_at hl 0 rfl) ?_
          refine va_get (C := RX1) (T := TX1) (N := 35) (fs := mwF ad σ) (v := .ref (ad 10)) hx hb hts in_X1 hown hK hP 0 rfl hci 10 (by decide) (hts _ q1681) (fun _ hq => hq) rfl dX1_set_86 ?_
          refine lv_iload_n hx hb dX1_set_89 rfl (lv_at hl 1 rfl) ?_
          obtain ⟨g9, hf⟩ := dz_go hf
          refine va_iald hx hb hK hP 8 0 rfl rfl g9 dX1_set_90 ?_
          refine lv_topi (fun x10 e_x10 => ?_)
          have hf := dz_ls e_x10 hf
          refine lv_goto (tgt := 100) hx hb dX1_set_91 (by decide) ?_
          refine lv_istore (lv' := [(4, .int x10), (0, .ref h), (1, .int v1), (2, .int v2), (3, .int v3)]) hx hb dX1_set_100 hl (by decide) rfl (fun ls hl => ?_)
          refine lv_iload_n hx hb dX1_set_102 rfl (lv_at hl 3 rfl) ?_
          refine lv_if_ne (tgt := 116) hx hb dX1_set_103 (by decide) (fun c103 => ?_) (fun c103 => ?_)
          · have hf := dz_f c103 hf
            refine lv_iload_n hx hb dX1_set_116 rfl (lv_at hl 3 rfl) ?_
            refine lv_iconst (v := 1) hx hb dX1_set_117 (by decide) ?_
            refine lv_icmp_ne (tgt := 131) hx hb dX1_set_118 (by decide) (fun c118 => ?_) (fun c118 => ?_)
            · have hf := dz_f c118 hf
              refine lv_aload_n hx hb dX1_set_131 rfl (lv_at hl 1 rfl) ?_
              refine va_get (C := RX1) (T := TX1) (N := 35) (fs := mwF ad σ) (v := .ref (ad 11)) hx hb hts in_X1 hown hK hP 0 rfl hci 11 (by decide) (hts _ q1682) (fun _ hq => hq) rfl dX1_set_132 ?_
              refine lv_iload_n hx hb dX1_set_135 rfl (lv_at hl 2 rfl) ?_
              refine lv_iload_n hx hb dX1_set_136 rfl (lv_at hl 4 rfl) ?_
              obtain ⟨g11, hf⟩ := dz_go hf
              refine va_iast hx hb hK hP hD hS 9 0 rfl rfl g11 dX1_set_137 (fun H locs hP1 _ hS => ?_)
              obtain ⟨s12, e_s12, hf⟩ := dz_lo hf
              have hP : va_P D cl (mw ci h ad cA s12) H := by rw [e_s12]; exact hP1
              clear hP1; replace hD := mw_D s12 hD
              refine lv_iload hx hb dX1_set_138 (lv_at hl 0 rfl) ?_
              exact W.iret (v := x10) hx hb hr (fun t ht hW => ⟨⟨x10, s12, rfl, Option.some.inj hf, by rw [ht]; exact hP, va_K.moved hW.alike hK, hD⟩, hS.F ht⟩) hS.2.2 dX1_set_140
            · have hf := dz_t c118 hf
              refine lv_aload_n hx hb dX1_set_121 rfl (lv_at hl 1 rfl) ?_
              refine va_get (C := RX1) (T := TX1) (N := 35) (fs := mwF ad σ) (v := .ref (ad 10)) hx hb hts in_X1 hown hK hP 0 rfl hci 10 (by decide) (hts _ q1681) (fun _ hq => hq) rfl dX1_set_122 ?_
              refine lv_iload_n hx hb dX1_set_125 rfl (lv_at hl 2 rfl) ?_
              refine lv_iload_n hx hb dX1_set_126 rfl (lv_at hl 4 rfl) ?_
              obtain ⟨g13, hf⟩ := dz_go hf
              refine va_iast hx hb hK hP hD hS 8 0 rfl rfl g13 dX1_set_127 (fun H locs hP1 _ hS => ?_)
              obtain ⟨s14, e_s14, hf⟩ := dz_lo hf
              have hP : va_P D cl (mw ci h ad cA s14) H := by rw [e_s14]; exact hP1
              clear hP1; replace hD := mw_D s14 hD
              refine lv_goto (tgt := 138) hx hb dX1_set_128 (by decide) ?_
              refine lv_iload hx hb dX1_set_138 (lv_at hl 0 rfl) ?_
              exact W.iret (v := x10) hx hb hr (fun t ht hW => ⟨⟨x10, s14, rfl, Option.some.inj hf, by rw [ht]; exact hP, va_K.moved hW.alike hK, hD⟩, hS.F ht⟩) hS.2.2 dX1_set_140
          · have hf := dz_t c103 hf
            refine lv_aload_n hx hb dX1_set_106 rfl (lv_at hl 1 rfl) ?_
            refine va_get (C := RX1) (T := TX1) (N := 35) (fs := mwF ad σ) (v := .ref (ad 8)) hx hb hts in_X1 hown hK hP 0 rfl hci 8 (by decide) (hts _ q1679) (fun _ hq => hq) rfl dX1_set_107 ?_
            refine lv_iload_n hx hb dX1_set_110 rfl (lv_at hl 2 rfl) ?_
            refine lv_iload_n hx hb dX1_set_111 rfl (lv_at hl 4 rfl) ?_
            obtain ⟨g15, hf⟩ := dz_go hf
            refine va_iast hx hb hK hP hD hS 6 0 rfl rfl g15 dX1_set_112 (fun H locs hP1 _ hS => ?_)
            obtain ⟨s16, e_s16, hf⟩ := dz_lo hf
            have hP : va_P D cl (mw ci h ad cA s16) H := by rw [e_s16]; exact hP1
            clear hP1; replace hD := mw_D s16 hD
            refine lv_goto (tgt := 138) hx hb dX1_set_113 (by decide) ?_
            refine lv_iload hx hb dX1_set_138 (lv_at hl 0 rfl) ?_
            exact W.iret (v := x10) hx hb hr (fun t ht hW => ⟨⟨x10, s16, rfl, Option.some.inj hf, by rw [ht]; exact hP, va_K.moved hW.alike hK, hD⟩, hS.F ht⟩) hS.2.2 dX1_set_140
      · have hf := dz_t c68 hf
        refine lv_aload_n hx hb dX1_set_71 rfl (lv_at hl 0 rfl) ?_
        refine va_get (C := RX1) (T := TX1) (N := 35) (fs := mwF ad σ) (v := .ref (ad 8)) hx hb hts in_X1 hown hK hP 0 rfl hci 8 (by decide) (hts _ q1679) (fun _ hq => hq) rfl dX1_set_72 ?_
        refine lv_iload_n hx hb dX1_set_75 rfl (lv_at hl 1 rfl) ?_
        obtain ⟨g17, hf⟩ := dz_go hf
        refine va_iald hx hb hK hP 6 0 rfl rfl g17 dX1_set_76 ?_
        refine lv_topi (fun x18 e_x18 => ?_)
        have hf := dz_ls e_x18 hf
        refine lv_goto (tgt := 100) hx hb dX1_set_77 (by decide) ?_
        refine lv_istore (lv' := [(4, .int x18), (0, .ref h), (1, .int v1), (2, .int v2), (3, .int v3)]) hx hb dX1_set_100 hl (by decide) rfl (fun ls hl => ?_)
        refine lv_iload_n hx hb dX1_set_102 rfl (lv_at hl 3 rfl) ?_
        refine lv_if_ne (tgt := 116) hx hb dX1_set_103 (by decide) (fun c103 => ?_) (fun c103 => ?_)
        · have hf := dz_f c103 hf
          refine lv_iload_n hx hb dX1_set_116 rfl (lv_at hl 3 rfl) ?_
          refine lv_iconst (v := 1) hx hb dX1_set_117 (by decide) ?_
          refine lv_icmp_ne (tgt := 131) hx hb dX1_set_118 (by decide) (fun c118 => ?_) (fun c118 => ?_)
          · have hf := dz_f c118 hf
            refine lv_aload_n hx hb dX1_set_131 rfl (lv_at hl 1 rfl) ?_
            refine va_get (C := RX1) (T := TX1) (N := 35) (fs := mwF ad σ) (v := .ref (ad 11)) hx hb hts in_X1 hown hK hP 0 rfl hci 11 (by decide) (hts _ q1682) (fun _ hq => hq) rfl dX1_set_132 ?_
            refine lv_iload_n hx hb dX1_set_135 rfl (lv_at hl 2 rfl) ?_
            refine lv_iload_n hx hb dX1_set_136 rfl (lv_at hl 4 rfl) ?_
            obtain ⟨g19, hf⟩ := dz_go hf
            refine va_iast hx hb hK hP hD hS 9 0 rfl rfl g19 dX1_set_137 (fun H locs hP1 _ hS => ?_)
            obtain ⟨s20, e_s20, hf⟩ := dz_lo hf
            have hP : va_P D cl (mw ci h ad cA s20) H := by rw [e_s20]; exact hP1
            clear hP1; replace hD := mw_D s20 hD
            refine lv_iload hx hb dX1_set_138 (lv_at hl 0 rfl) ?_
            exact W.iret (v := x18) hx hb hr (fun t ht hW => ⟨⟨x18, s20, rfl, Option.some.inj hf, by rw [ht]; exact hP, va_K.moved hW.alike hK, hD⟩, hS.F ht⟩) hS.2.2 dX1_set_140
          · have hf := dz_t c118 hf
            refine lv_aload_n hx hb dX1_set_121 rfl (lv_at hl 1 rfl) ?_
            refine va_get (C := RX1) (T := TX1) (N := 35) (fs := mwF ad σ) (v := .ref (ad 10)) hx hb hts in_X1 hown hK hP 0 rfl hci 10 (by decide) (hts _ q1681) (fun _ hq => hq) rfl dX1_set_122 ?_
            refine lv_iload_n hx hb dX1_set_125 rfl (lv_at hl 2 rfl) ?_
            refine lv_iload_n hx hb dX1_set_126 rfl (lv_at hl 4 rfl) ?_
            obtain ⟨g21, hf⟩ := dz_go hf
            refine va_iast hx hb hK hP hD hS 8 0 rfl rfl g21 dX1_set_127 (fun H locs hP1 _ hS => ?_)
            obtain ⟨s22, e_s22, hf⟩ := dz_lo hf
            have hP : va_P D cl (mw ci h ad cA s22) H := by rw [e_s22]; exact hP1
            clear hP1; replace hD := mw_D s22 hD
            refine lv_goto (tgt := 138) hx hb dX1_set_128 (by decide) ?_
            refine lv_iload hx hb dX1_set_138 (lv_at hl 0 rfl) ?_
            exact W.iret (v := x18) hx hb hr (fun t ht hW => ⟨⟨x18, s22, rfl, Option.some.inj hf, by rw [ht]; exact hP, va_K.moved hW.alike hK, hD⟩, hS.F ht⟩) hS.2.2 dX1_set_140
        · have hf := dz_t c103 hf
          refine lv_aload_n hx hb dX1_set_106 rfl (lv_at hl 1 rfl) ?_
          refine va_get (C := RX1) (T := TX1) (N := 35) (fs := mwF ad σ) (v := .ref (ad 8)) hx hb hts in_X1 hown hK hP 0 rfl hci 8 (by decide) (hts _ q1679) (fun _ hq => hq) rfl dX1_set_107 ?_
          refine lv_iload_n hx hb dX1_set_110 rfl (lv_at hl 2 rfl) ?_
          refine lv_iload_n hx hb dX1_set_111 rfl (lv_at hl 4 rfl) ?_
          obtain ⟨g23, hf⟩ := dz_go hf
          refine va_iast hx hb hK hP hD hS 6 0 rfl rfl g23 dX1_set_112 (fun H locs hP1 _ hS => ?_)
          obtain ⟨s24, e_s24, hf⟩ := dz_lo hf
          have hP : va_P D cl (mw ci h ad cA s24) H := by rw [e_s24]; exact hP1
          clear hP1; replace hD := mw_D s24 hD
          refine lv_goto (tgt := 138) hx hb dX1_set_113 (by decide) ?_
          refine lv_iload hx hb dX1_set_138 (lv_at hl 0 rfl) ?_
          exact W.iret (v := x18) hx hb hr (fun t ht hW => ⟨⟨x18, s24, rfl, Option.some.inj hf, by rw [ht]; exact hP, va_K.moved hW.alike hK, hD⟩, hS.F ht⟩) hS.2.2 dX1_set_140
set_option maxHeartbeats 4000000 in
set_option maxRecDepth 100000 in
theorem mtX1_set (l : Launch) (D : va_G) (cl : List vw_C) (ci : Nat) (hci : cl[ci]? = some (RX1, TX1, 35)) (h : Nat) (ad : Nat → Nat) (cA : Nat → ClassId) (sz : Nat) (σ : pM) (a0 : Int32) (a1 : Int32) (a2 : Int32) (K : Nat) (res : (Int32 × pM)) (hf : fnX1_set K a0 a1 a2 σ = some res) : Met l yX1_set (ws_ yX1_set cX1_set 5 (some .int)) ({ frames := 2, cells := 0, slots := 0, locals := 46 }) (mPc D cl ci h ad cA sz σ [.ref h, .int a0, .int a1, .int a2]) (mQi D cl ci h ad cA (va_A (mw ci h ad cA σ) sz) res) 0 0 (va_A (mw ci h ad cA σ) sz) := by
  refine Met.ofW (cc := cX1_set) (maxL := 5) (ret := some .int) (by decide +kernel) rfl ?_
  intro p e s m args below meth c s₁ B hml hv
  obtain ⟨rfl, hsz, hP, hK, hD0⟩ := hv
  have hx := B.exec
  have hb := B.bytes
  have hr := B.returns
  have hts := atoms_spec (ws := ws_ yX1_set cX1_set 5 (some .int)) B.pre
  have hts : ∀ w ∈ lw_all, w.before _ s = true := fun w h => hts w (List.mem_cons_of_mem _ h)
  have hown : s.vm.findClass RX1 = some m.cls := findClass_of_methodNamed B.named
  have hlocks := B.notSynchronized
  subst hsz
  have hD := hD0.self (sz := s.heap.size)
  generalize hAe : va_A (mw ci h ad cA σ) s.heap.size = A at hD ⊢
  have hA : ∀ q : Nat, s.heap.size ≤ q → A q := fun q h => by rw [← hAe]; exact Or.inr h
  clear hAe hD0
  have hS : va_S A s.heap s.heap [] := va_S.rf
  generalize hHe : s.heap = H at hP hS ⊢
  have hS : va_S A s.heap H [] := by rw [hHe]; exact hS
  generalize ([] : List Loc) = locs at hS ⊢
  have hl := lv_entry ([.ref h, .int a0, .int a1, .int a2]) (n := 5) (Nat.le_of_ble_eq_true rfl)
  rw [lg_entry_eq]
  generalize (lg_sl ([.ref h, .int a0, .int a1, .int a2]) ++ List.replicate (5 - (lg_sl ([.ref h, .int a0, .int a1, .int a2])).length) Slot.unset).toArray = ls at hl ⊢
  have hl : lv_has ls 5 [(0, .ref h), (1, .int a0), (2, .int a1), (3, .int a2)] := hl
  have hf : (dz_c (fnX1_isLine K a0 σ) fun x1 s2 => if x1 = (0 : Int32) then (some ((-1), s2)) else (dz_b (fnX1_in K (Int32.toInt64 a1) 0 2) fun x3 => if x3 = (0 : Int32) then (some ((-1), s2)) else (if a1 ≤ (0 : Int32) then ((lfX1_set K K).1 a0 a1 a2 s2) else (if ¬ (a0 < 0 ∨ 116 ≤ Int32.toNatClampNeg a0) then (dz_l (s2.2.2.1 9 (Int32.toNatClampNeg a0)) fun x5 => dz_b (fnX1_hasPair K x5) fun x6 => if x6 = (0 : Int32) then (some ((-1), s2)) else ((lfX1_set K K).1 a0 a1 a2 s2)) else none))) : Option (Int32 × pM)) = some res := hf
  have ih := wlX1_set (l := l) (e := e) (below := below) (h := h) (ad := ad) (cA := cA) hci hA hK K res a0 a1 a2 hx hb hr hlocks hml hown hts K
  refine lv_aload_n hx hb dX1_set_0 rfl (lv_at hl 0 rfl) ?_
  refine lv_iload_n hx hb dX1_set_1 rfl (lv_at hl 1 rfl) ?_
  obtain ⟨x1, s2, hx1, hf⟩ := dz_co hf
  have hFc := dz_free hD hS hA
  refine va_calli (va_runV (As := [.int a0]) (rest := []) ⟨hx, hb, hml, hown, hts⟩ (mtX1_isLine l D cl ci hci h ad cA H.size σ a0 K (x1, s2) hx1) (cwV 1 hts (lw_V q1923 q1925 qs60 q88 q1926) rfl rfl rfl (by decide +kernel) ⟨Nat.le_of_ble_eq_true rfl, Nat.le_of_ble_eq_true rfl⟩) (m_preV hci hK hP hD) rfl rfl hl.1 rfl (lv_room (Nat.le_of_ble_eq_true rfl)) dX1_set_2 ⟨Nat.le_refl _, Nat.le_refl _⟩) hS (fun q _ hq => hFc q hq) hFc (fun r u t H1 locs ht hvm hw hB hz hk hS => ?_)
  obtain ⟨hw1, hw2⟩ := Prod.mk.inj hw.symm; subst hw1; subst hw2
  replace hP := m_back ht hB
  replace hD := mw_D s2 hD
  clear hB hk hz hvm ht hFc; generalize H1 = H at hP hS ⊢
  refine lv_if_eq (tgt := 36) hx hb dX1_set_5 (by decide) (fun c5 => ?_) (fun c5 => ?_)
  · have hf := dz_t c5 hf
    refine lv_iconst (v := (-1)) hx hb dX1_set_36 (by decide) ?_
    exact W.iret (v := (-1)) hx hb hr (fun t ht hW => ⟨⟨(-1), s2, rfl, Option.some.inj hf, by rw [ht]; exact hP, va_K.moved hW.alike hK, hD⟩, hS.F ht⟩) hS.2.2 dX1_set_37
  · have hf := dz_f c5 hf
    refine lv_iload_n hx hb dX1_set_8 rfl (lv_at hl 2 rfl) ?_
    refine lv_i2l hx hb dX1_set_9 (rfl : _ = Int32.toInt64 a1) ?_
    refine lv_lconst (v := 0) hx hb dX1_set_10 rfl ?_
    refine lv_ldc2 (v := 2) hx hb hown (hts _ q1789) dX1_set_11 ?_
    obtain ⟨x3, hx3, hf⟩ := dz_bo hf
    refine va_calli (va_runS (As := [.long (Int32.toInt64 a1), .long 0, .long 2]) (rest := []) ⟨hx, hb, hml, hown, hts⟩ (mtX1_in l (Int32.toInt64 a1) 0 2 K x3 hx3) (va_cwS 3 hts (lw_S q1783 q1784 q88 q1785) rfl rfl rfl (by decide +kernel) ⟨Nat.le_of_ble_eq_true rfl, Nat.le_of_ble_eq_true rfl⟩) ⟨fun a U g mk q => q, fun U hU hW => ⟨rfl, trivial⟩⟩ rfl rfl hl.1 rfl (lv_room (Nat.le_of_ble_eq_true rfl)) dX1_set_14 ⟨Nat.le_refl _, Nat.le_refl _⟩) hS (fun q _ hq => hq.elim) (fun q hq => hq.elim) (fun r u t H1 locs ht hvm hw hB hz hk hS => ?_)
    replace hw := hw.symm; subst hw
    replace hP := dz_keep hP hk
    clear hB hk hz hvm ht; generalize H1 = H at hP hS ⊢
    refine lv_if_eq (tgt := 36) hx hb dX1_set_17 (by decide) (fun c17 => ?_) (fun c17 => ?_)
    · have hf := dz_t c17 hf
      refine lv_iconst (v := (-1)) hx hb dX1_set_36 (by decide) ?_
      exact W.iret (v := (-1)) hx hb hr (fun t ht hW => ⟨⟨(-1), s2, rfl, Option.some.inj hf, by rw [ht]; exact hP, va_K.moved hW.alike hK, hD⟩, hS.F ht⟩) hS.2.2 dX1_set_37
    · have hf := dz_f c17 hf
      refine lv_iload_n hx hb dX1_set_20 rfl (lv_at hl 2 rfl) ?_
      refine lv_if_le (tgt := 38) hx hb dX1_set_21 (by decide) (fun c21 => ?_) (fun c21 => ?_)
      · have hf := dz_t c21 hf
        exact ih.1 a0 a1 a2 s2 H locs hP hD hS ls (lv_sub hl [0, 1, 2, 3] rfl) hf
      · have hf := dz_f c21 hf
        refine lv_aload_n hx hb dX1_set_24 rfl (lv_at hl 0 rfl) ?_
        refine va_get (C := RX1) (T := TX1) (N := 35) (fs := mwF ad s2) (v := .ref (ad 9)) hx hb hts in_X1 hown hK hP 0 rfl hci 9 (by decide) (hts _ q1680) (fun _ hq => hq) rfl dX1_set_25 ?_
        refine lv_iload_n hx hb dX1_set_28 rfl (lv_at hl 1 rfl) ?_
        obtain ⟨g4, hf⟩ := dz_go hf
        refine va_iald hx hb hK hP 7 0 rfl rfl g4 dX1_set_29 ?_
        refine lv_topi (fun x5 e_x5 => ?_)
        have hf := dz_ls e_x5 hf
        obtain ⟨x6, hx6, hf⟩ := dz_bo hf
        refine va_calli (va_runS (As := [.int x5]) (rest := []) ⟨hx, hb, hml, hown, hts⟩ (mtX1_hasPair l x5 K x6 hx6) (va_cwS 1 hts (lw_S q1850 q1851 q88 q1852) rfl rfl rfl (by decide +kernel) ⟨Nat.le_of_ble_eq_true rfl, Nat.le_of_ble_eq_true rfl⟩) ⟨fun a U g mk q => q, fun U hU hW => ⟨rfl, trivial⟩⟩ rfl rfl hl.1 rfl (lv_room (Nat.le_of_ble_eq_true rfl)) dX1_set_30 ⟨Nat.le_refl _, Nat.le_refl _⟩) hS (fun q _ hq => hq.elim) (fun q hq => hq.elim) (fun r u t H1 locs ht hvm hw hB hz hk hS => ?_)
        replace hw := hw.symm; subst hw
        replace hP := dz_keep hP hk
        clear hB hk hz hvm ht; generalize H1 = H at hP hS ⊢
        refine lv_if_ne (tgt := 38) hx hb dX1_set_33 (by decide) (fun c33 => ?_) (fun c33 => ?_)
        · have hf := dz_f c33 hf
          exact ih.1 a0 a1 a2 s2 H locs hP hD hS ls (lv_sub hl [0, 1, 2, 3] rfl) hf
        · have hf := dz_t c33 hf
          refine lv_iconst (v := (-1)) hx hb dX1_set_36 (by decide) ?_
          exact W.iret (v := (-1)) hx hb hr (fun t ht hW => ⟨⟨(-1), s2, rfl, Option.some.inj hf, by rw [ht]; exact hP, va_K.moved hW.alike hK, hD⟩, hS.F ht⟩) hS.2.2 dX1_set_37

noncomputable def fnX1_isRow (K : Nat) (a0 : Int32) (a1 : Int32) (a2 : Int32) (σ : pM) : Option (Int32 × pM) := dz_c (fnX1_isLine K a0 σ) fun x1 s2 => if x1 = (0 : Int32) then (some (0, s2)) else (if a1 = (0 : Int32) then (if ¬ (a0 < 0 ∨ 116 ≤ Int32.toNatClampNeg a0) then (dz_l (s2.2.2.1 12 (Int32.toNatClampNeg a0)) fun x4 => dz_b (fnX1_in K (Int32.toInt64 a2) 0 (Int32.toInt64 (x4 - 1))) fun x5 => if x5 = (0 : Int32) then (some (0, s2)) else (some (1, s2))) else none) else (if ¬ (a0 < 0 ∨ 116 ≤ Int32.toNatClampNeg a0) then (dz_l (s2.2.2.1 13 (Int32.toNatClampNeg a0)) fun x7 => dz_b (fnX1_in K (Int32.toInt64 a2) 0 (Int32.toInt64 (x7 - 1))) fun x8 => if x8 = (0 : Int32) then (some (0, s2)) else (some (1, s2))) else none))
set_option maxHeartbeats 4000000 in
set_option maxRecDepth 100000 in
theorem mtX1_isRow (l : Launch) (D : va_G) (cl : List vw_C) (ci : Nat) (hci : cl[ci]? = some (RX1, TX1, 35)) (h : Nat) (ad : Nat → Nat) (cA : Nat → ClassId) (sz : Nat) (σ : pM) (a0 : Int32) (a1 : Int32) (a2 : Int32) (K : Nat) (res : (Int32 × pM)) (hf : fnX1_isRow K a0 a1 a2 σ = some res) : Met l yX1_isRow (ws_ yX1_isRow cX1_isRow 4 (some .boolean)) ({ frames := 2, cells := 0, slots := 0, locals := 46 }) (mPc D cl ci h ad cA sz σ [.ref h, .int a0, .int a1, .int a2]) (mQi D cl ci h ad cA (va_A (mw ci h ad cA σ) sz) res) 0 0 (va_A (mw ci h ad cA σ) sz) := by
  refine Met.ofW (cc := cX1_isRow) (maxL := 4) (ret := some .boolean) (by decide +kernel) rfl ?_
  intro p e s m args below meth c s₁ B hml hv
  obtain ⟨rfl, hsz, hP, hK, hD0⟩ := hv
  have hx := B.exec
  have hb := B.bytes
  have hr := B.returns
  have hts := atoms_spec (ws := ws_ yX1_isRow cX1_isRow 4 (some .boolean)) B.pre
  have hts : ∀ w ∈ lw_all, w.before _ s = true := fun w h => hts w (List.mem_cons_of_mem _ h)
  have hown : s.vm.findClass RX1 = some m.cls := findClass_of_methodNamed B.named
  have hlocks := B.notSynchronized
  subst hsz
  have hD := hD0.self (sz := s.heap.size)
  generalize hAe : va_A (mw ci h ad cA σ) s.heap.size = A at hD ⊢
  have hA : ∀ q : Nat, s.heap.size ≤ q → A q := fun q h => by rw [← hAe]; exact Or.inr h
  clear hAe hD0
  have hS : va_S A s.heap s.heap [] := va_S.rf
  generalize hHe : s.heap = H at hP hS ⊢
  have hS : va_S A s.heap H [] := by rw [hHe]; exact hS
  generalize ([] : List Loc) = locs at hS ⊢
  have hl := lv_entry ([.ref h, .int a0, .int a1, .int a2]) (n := 4) (Nat.le_of_ble_eq_true rfl)
  rw [lg_entry_eq]
  generalize (lg_sl ([.ref h, .int a0, .int a1, .int a2]) ++ List.replicate (4 - (lg_sl ([.ref h, .int a0, .int a1, .int a2])).length) Slot.unset).toArray = ls at hl ⊢
  have hl : lv_has ls 4 [(0, .ref h), (1, .int a0), (2, .int a1), (3, .int a2)] := hl
  have hf : (dz_c (fnX1_isLine K a0 σ) fun x1 s2 => if x1 = (0 : Int32) then (some (0, s2)) else (if a1 = (0 : Int32) then (if ¬ (a0 < 0 ∨ 116 ≤ Int32.toNatClampNeg a0) then (dz_l (s2.2.2.1 12 (Int32.toNatClampNeg a0)) fun x4 => dz_b (fnX1_in K (Int32.toInt64 a2) 0 (Int32.toInt64 (x4 - 1))) fun x5 => if x5 = (0 : Int32) then (some (0, s2)) else (some (1, s2))) else none) else (if ¬ (a0 < 0 ∨ 116 ≤ Int32.toNatClampNeg a0) then (dz_l (s2.2.2.1 13 (Int32.toNatClampNeg a0)) fun x7 => dz_b (fnX1_in K (Int32.toInt64 a2) 0 (Int32.toInt64 (x7 - 1))) fun x8 => if x8 = (0 : Int32) then (some (0, s2)) else (some (1, s2))) else none)) : Option (Int32 × pM)) = some res := hf
  refine lv_aload_n hx hb dX1_isRow_0 rfl (lv_at hl 0 rfl) ?_
  refine lv_iload_n hx hb dX1_isRow_1 rfl (lv_at hl 1 rfl) ?_
  obtain ⟨x1, s2, hx1, hf⟩ := dz_co hf
  have hFc := dz_free hD hS hA
  refine va_calli (va_runV (As := [.int a0]) (rest := []) ⟨hx, hb, hml, hown, hts⟩ (mtX1_isLine l D cl ci hci h ad cA H.size σ a0 K (x1, s2) hx1) (cwV 1 hts (lw_V q1923 q1925 qs60 q88 q1926) rfl rfl rfl (by decide +kernel) ⟨Nat.le_of_ble_eq_true rfl, Nat.le_of_ble_eq_true rfl⟩) (m_preV hci hK hP hD) rfl rfl hl.1 rfl (lv_room (Nat.le_of_ble_eq_true rfl)) dX1_isRow_2 ⟨Nat.le_refl _, Nat.le_refl _⟩) hS (fun q _ hq => hFc q hq) hFc (fun r u t H1 locs ht hvm hw hB hz hk hS => ?_)
  obtain ⟨hw1, hw2⟩ := Prod.mk.inj hw.symm; subst hw1; subst hw2
  replace hP := m_back ht hB
  replace hD := mw_D s2 hD
  clear hB hk hz hvm ht hFc; generalize H1 = H at hP hS ⊢
  refine lv_if_eq (tgt := 43) hx hb dX1_isRow_5 (by decide) (fun c5 => ?_) (fun c5 => ?_)
  · have hf := dz_t c5 hf
    refine lv_iconst (v := 0) hx hb dX1_isRow_43 (by decide) ?_
    exact W.zret (v := 0) hx hb hr rfl (fun t ht hW => ⟨⟨0, s2, rfl, Option.some.inj hf, by rw [ht]; exact hP, va_K.moved hW.alike hK, hD⟩, hS.F ht⟩) hS.2.2 dX1_isRow_44
  · have hf := dz_f c5 hf
    refine lv_iload_n hx hb dX1_isRow_8 rfl (lv_at hl 3 rfl) ?_
    refine lv_i2l hx hb dX1_isRow_9 (rfl : _ = Int32.toInt64 a2) ?_
    refine lv_lconst (v := 0) hx hb dX1_isRow_10 rfl ?_
    refine lv_iload_n hx hb dX1_isRow_11 rfl (lv_at hl 2 rfl) ?_
    refine lv_if_eq (tgt := 24) hx hb dX1_isRow_12 (by decide) (fun c12 => ?_) (fun c12 => ?_)
    · have hf := dz_t c12 hf
      refine lv_aload_n hx hb dX1_isRow_24 rfl (lv_at hl 0 rfl) ?_
      refine va_get (C := RX1) (T := TX1) (N := 35) (fs := mwF ad s2) (v := .ref (ad 12)) hx hb hts in_X1 hown hK hP 0 rfl hci 12 (by decide) (hts _ q1683) (fun _ hq => hq) rfl dX1_isRow_25 ?_
      refine lv_iload_n hx hb dX1_isRow_28 rfl (lv_at hl 1 rfl) ?_
      obtain ⟨g3, hf⟩ := dz_go hf
      refine va_iald hx hb hK hP 10 0 rfl rfl g3 dX1_isRow_29 ?_
      refine lv_topi (fun x4 e_x4 => ?_)
      have hf := dz_ls e_x4 hf
      refine lv_iconst (v := 1) hx hb dX1_isRow_30 (by decide) ?_
      refine lv_isub hx hb dX1_isRow_31 ?_
      refine lv_i2l hx hb dX1_isRow_32 (rfl : _ = Int32.toInt64 (x4 - 1)) ?_
      obtain ⟨x5, hx5, hf⟩ := dz_bo hf
      refine va_calli (va_runS (As := [.long (Int32.toInt64 a2), .long 0, .long (Int32.toInt64 (x4 - 1))]) (rest := []) ⟨hx, hb, hml, hown, hts⟩ (mtX1_in l (Int32.toInt64 a2) 0 (Int32.toInt64 (x4 - 1)) K x5 hx5) (va_cwS 3 hts (lw_S q1783 q1784 q88 q1785) rfl rfl rfl (by decide +kernel) ⟨Nat.le_of_ble_eq_true rfl, Nat.le_of_ble_eq_true rfl⟩) ⟨fun a U g mk q => q, fun U hU hW => ⟨rfl, trivial⟩⟩ rfl rfl hl.1 rfl (lv_room (Nat.le_of_ble_eq_true rfl)) dX1_isRow_33 ⟨Nat.le_refl _, Nat.le_refl _⟩) hS (fun q _ hq => hq.elim) (fun q hq => hq.elim) (fun r u t H1 locs ht hvm hw hB hz hk hS => ?_)
      replace hw := hw.symm; subst hw
      replace hP := dz_keep hP hk
      clear hB hk hz hvm ht; generalize H1 = H at hP hS ⊢
      refine lv_if_eq (tgt := 43) hx hb dX1_isRow_36 (by decide) (fun c36 => ?_) (fun c36 => ?_)
      · have hf := dz_t c36 hf
        refine lv_iconst (v := 0) hx hb dX1_isRow_43 (by decide) ?_
        exact W.zret (v := 0) hx hb hr rfl (fun t ht hW => ⟨⟨0, s2, rfl, Option.some.inj hf, by rw [ht]; exact hP, va_K.moved hW.alike hK, hD⟩, hS.F ht⟩) hS.2.2 dX1_isRow_44
      · have hf := dz_f c36 hf
        refine lv_iconst (v := 1) hx hb dX1_isRow_39 (by decide) ?_
        refine lv_goto (tgt := 44) hx hb dX1_isRow_40 (by decide) ?_
        exact W.zret (v := 1) hx hb hr rfl (fun t ht hW => ⟨⟨1, s2, rfl, Option.some.inj hf, by rw [ht]; exact hP, va_K.moved hW.alike hK, hD⟩, hS.F ht⟩) hS.2.2 dX1_isRow_44
    · have hf := dz_f c12 hf
      refine lv_aload_n hx hb dX1_isRow_15 rfl (lv_at hl 0 rfl) ?_
      refine va_get (C := RX1) (T := TX1) (N := 35) (fs := mwF ad s2) (v := .ref (ad 13)) hx hb hts in_X1 hown hK hP 0 rfl hci 13 (by decide) (hts _ q1684) (fun _ hq => hq) rfl dX1_isRow_16 ?_
      refine lv_iload_n hx hb dX1_isRow_19 rfl (lv_at hl 1 rfl) ?_
      obtain ⟨g6, hf⟩ := dz_go hf
      refine va_iald hx hb hK hP 11 0 rfl rfl g6 dX1_isRow_20 ?_
      refine lv_topi (fun x7 e_x7 => ?_)
      have hf := dz_ls e_x7 hf
      refine lv_goto (tgt := 30) hx hb dX1_isRow_21 (by decide) ?_
      refine lv_iconst (v := 1) hx hb dX1_isRow_30 (by decide) ?_
      refine lv_isub hx hb dX1_isRow_31 ?_
      refine lv_i2l hx hb dX1_isRow_32 (rfl : _ = Int32.toInt64 (x7 - 1)) ?_
      obtain ⟨x8, hx8, hf⟩ := dz_bo hf
      refine va_calli (va_runS (As := [.long (Int32.toInt64 a2), .long 0, .long (Int32.toInt64 (x7 - 1))]) (rest := []) ⟨hx, hb, hml, hown, hts⟩ (mtX1_in l (Int32.toInt64 a2) 0 (Int32.toInt64 (x7 - 1)) K x8 hx8) (va_cwS 3 hts (lw_S q1783 q1784 q88 q1785) rfl rfl rfl (by decide +kernel) ⟨Nat.le_of_ble_eq_true rfl, Nat.le_of_ble_eq_true rfl⟩) ⟨fun a U g mk q => q, fun U hU hW => ⟨rfl, trivial⟩⟩ rfl rfl hl.1 rfl (lv_room (Nat.le_of_ble_eq_true rfl)) dX1_isRow_33 ⟨Nat.le_refl _, Nat.le_refl _⟩) hS (fun q _ hq => hq.elim) (fun q hq => hq.elim) (fun r u t H1 locs ht hvm hw hB hz hk hS => ?_)
      replace hw := hw.symm; subst hw
      replace hP := dz_keep hP hk
      clear hB hk hz hvm ht; generalize H1 = H at hP hS ⊢
      refine lv_if_eq (tgt := 43) hx hb dX1_isRow_36 (by decide) (fun c36 => ?_) (fun c36 => ?_)
      · have hf := dz_t c36 hf
        refine lv_iconst (v := 0) hx hb dX1_isRow_43 (by decide) ?_
        exact W.zret (v := 0) hx hb hr rfl (fun t ht hW => ⟨⟨0, s2, rfl, Option.some.inj hf, by rw [ht]; exact hP, va_K.moved hW.alike hK, hD⟩, hS.F ht⟩) hS.2.2 dX1_isRow_44
      · have hf := dz_f c36 hf
        refine lv_iconst (v := 1) hx hb dX1_isRow_39 (by decide) ?_
        refine lv_goto (tgt := 44) hx hb dX1_isRow_40 (by decide) ?_
        exact W.zret (v := 1) hx hb hr rfl (fun t ht hW => ⟨⟨1, s2, rfl, Option.some.inj hf, by rw [ht]; exact hP, va_K.moved hW.alike hK, hD⟩, hS.F ht⟩) hS.2.2 dX1_isRow_44

noncomputable def fnX1_canBe (K : Nat) (a0 : Int32) (a1 : Int32) : Option Int32 := if a0 = (0 : Int32) then (dz_b (fnX1_isNumber K (Int32.toInt64 a1)) fun x5 => if x5 = 0 ∨ x5 = 1 then (some x5) else none) else (if a0 = (1 : Int32) then (dz_b (fnX1_in K (Int32.toInt64 a1) 1 30) fun x3 => if x3 = 0 ∨ x3 = 1 then (some x3) else none) else (dz_b (fnX1_in K (Int32.toInt64 a1) 2 999) fun x1 => if x1 = 0 ∨ x1 = 1 then (some x1) else none))
set_option maxHeartbeats 4000000 in
set_option maxRecDepth 100000 in
theorem mtX1_canBe (l : Launch) (a0 : Int32) (a1 : Int32) (K : Nat) (res : Int32) (hf : fnX1_canBe K a0 a1 = some res) : Met l yX1_canBe (ws_ yX1_canBe cX1_canBe 2 (some .boolean)) ({ frames := 2, cells := 0, slots := 0, locals := 46 }) (dz_P [.int a0, .int a1]) (dz_Qi res) 0 0 (fun _ => False) := by
  refine Met.ofW (cc := cX1_canBe) (maxL := 2) (ret := some .boolean) (by decide +kernel) rfl ?_
  intro p e s m args below meth c s₁ B hml hv
  obtain ⟨rfl, -⟩ := hv
  have hx := B.exec
  have hb := B.bytes
  have hr := B.returns
  have hts := atoms_spec (ws := ws_ yX1_canBe cX1_canBe 2 (some .boolean)) B.pre
  have hts : ∀ w ∈ lw_all, w.before _ s = true := fun w h => hts w (List.mem_cons_of_mem _ h)
  have hown : s.vm.findClass RX1 = some m.cls := findClass_of_methodNamed B.named
  have hlocks := B.notSynchronized
  have hS : va_S (fun _ => False) s.heap s.heap [] := va_S.rf
  generalize hHe : s.heap = H at hS ⊢
  have hS : va_S (fun _ => False) s.heap H [] := by rw [hHe]; exact hS
  generalize ([] : List Loc) = locs at hS ⊢
  have hl := lv_entry ([.int a0, .int a1]) (n := 2) (Nat.le_of_ble_eq_true rfl)
  rw [lg_entry_eq]
  generalize (lg_sl ([.int a0, .int a1]) ++ List.replicate (2 - (lg_sl ([.int a0, .int a1])).length) Slot.unset).toArray = ls at hl ⊢
  have hl : lv_has ls 2 [(0, .int a0), (1, .int a1)] := hl
  have hf : (if a0 = (0 : Int32) then (dz_b (fnX1_isNumber K (Int32.toInt64 a1)) fun x5 => if x5 = 0 ∨ x5 = 1 then (some x5) else none) else (if a0 = (1 : Int32) then (dz_b (fnX1_in K (Int32.toInt64 a1) 1 30) fun x3 => if x3 = 0 ∨ x3 = 1 then (some x3) else none) else (dz_b (fnX1_in K (Int32.toInt64 a1) 2 999) fun x1 => if x1 = 0 ∨ x1 = 1 then (some x1) else none)) : Option Int32) = some res := hf
  refine lv_iload_n hx hb dX1_canBe_0 rfl (lv_at hl 0 rfl) ?_
  refine lv_if_ne (tgt := 12) hx hb dX1_canBe_1 (by decide) (fun c1 => ?_) (fun c1 => ?_)
  · have hf := dz_f c1 hf
    refine lv_iload_n hx hb dX1_canBe_12 rfl (lv_at hl 0 rfl) ?_
    refine lv_iconst (v := 1) hx hb dX1_canBe_13 (by decide) ?_
    refine lv_icmp_ne (tgt := 29) hx hb dX1_canBe_14 (by decide) (fun c14 => ?_) (fun c14 => ?_)
    · have hf := dz_f c14 hf
      refine lv_iload_n hx hb dX1_canBe_29 rfl (lv_at hl 1 rfl) ?_
      refine lv_i2l hx hb dX1_canBe_30 (rfl : _ = Int32.toInt64 a1) ?_
      refine lv_ldc2 (v := 2) hx hb hown (hts _ q1789) dX1_canBe_31 ?_
      refine lv_ldc2 (v := 999) hx hb hown (hts _ q2038) dX1_canBe_34 ?_
      obtain ⟨x1, hx1, hf⟩ := dz_bo hf
      refine va_calli (va_runS (As := [.long (Int32.toInt64 a1), .long 2, .long 999]) (rest := []) ⟨hx, hb, hml, hown, hts⟩ (mtX1_in l (Int32.toInt64 a1) 2 999 K x1 hx1) (va_cwS 3 hts (lw_S q1783 q1784 q88 q1785) rfl rfl rfl (by decide +kernel) ⟨Nat.le_of_ble_eq_true rfl, Nat.le_of_ble_eq_true rfl⟩) ⟨fun a U g mk q => q, fun U hU hW => ⟨rfl, trivial⟩⟩ rfl rfl hl.1 rfl (lv_room (Nat.le_of_ble_eq_true rfl)) dX1_canBe_37 ⟨Nat.le_refl _, Nat.le_refl _⟩) hS (fun q _ hq => hq.elim) (fun q hq => hq.elim) (fun r u t H1 locs ht hvm hw hB hz hk hS => ?_)
      replace hw := hw.symm; subst hw
      clear hB hk hz hvm ht; generalize H1 = H at hS ⊢
      obtain ⟨g2, hf⟩ := dz_go hf
      exact W.zret (v := x1) hx hb hr (dz_nz g2) (fun t ht hW => ⟨⟨x1, (), rfl, Option.some.inj hf, trivial⟩, hS.F ht⟩) hS.2.2 dX1_canBe_40
    · have hf := dz_t c14 hf
      refine lv_iload_n hx hb dX1_canBe_17 rfl (lv_at hl 1 rfl) ?_
      refine lv_i2l hx hb dX1_canBe_18 (rfl : _ = Int32.toInt64 a1) ?_
      refine lv_lconst (v := 1) hx hb dX1_canBe_19 rfl ?_
      refine lv_ldc2 (v := 30) hx hb hown (hts _ q2037) dX1_canBe_20 ?_
      obtain ⟨x3, hx3, hf⟩ := dz_bo hf
      refine va_calli (va_runS (As := [.long (Int32.toInt64 a1), .long 1, .long 30]) (rest := []) ⟨hx, hb, hml, hown, hts⟩ (mtX1_in l (Int32.toInt64 a1) 1 30 K x3 hx3) (va_cwS 3 hts (lw_S q1783 q1784 q88 q1785) rfl rfl rfl (by decide +kernel) ⟨Nat.le_of_ble_eq_true rfl, Nat.le_of_ble_eq_true rfl⟩) ⟨fun a U g mk q => q, fun U hU hW => ⟨rfl, trivial⟩⟩ rfl rfl hl.1 rfl (lv_room (Nat.le_of_ble_eq_true rfl)) dX1_canBe_23 ⟨Nat.le_refl _, Nat.le_refl _⟩) hS (fun q _ hq => hq.elim) (fun q hq => hq.elim) (fun r u t H1 locs ht hvm hw hB hz hk hS => ?_)
      replace hw := hw.symm; subst hw
      clear hB hk hz hvm ht; generalize H1 = H at hS ⊢
      refine lv_goto (tgt := 40) hx hb dX1_canBe_26 (by decide) ?_
      obtain ⟨g4, hf⟩ := dz_go hf
      exact W.zret (v := x3) hx hb hr (dz_nz g4) (fun t ht hW => ⟨⟨x3, (), rfl, Option.some.inj hf, trivial⟩, hS.F ht⟩) hS.2.2 dX1_canBe_40
  · have hf := dz_t c1 hf
    refine lv_iload_n hx hb dX1_canBe_4 rfl (lv_at hl 1 rfl) ?_
    refine lv_i2l hx hb dX1_canBe_5 (rfl : _ = Int32.toInt64 a1) ?_
    obtain ⟨x5, hx5, hf⟩ := dz_bo hf
    refine va_calli (va_runS (As := [.long (Int32.toInt64 a1)]) (rest := []) ⟨hx, hb, hml, hown, hts⟩ (mtX1_isNumber l (Int32.toInt64 a1) K x5 hx5) (va_cwS 1 hts (lw_S q1786 q1787 q88 q1788) rfl rfl rfl (by decide +kernel) ⟨Nat.le_of_ble_eq_true rfl, Nat.le_of_ble_eq_true rfl⟩) ⟨fun a U g mk q => q, fun U hU hW => ⟨rfl, trivial⟩⟩ rfl rfl hl.1 rfl (lv_room (Nat.le_of_ble_eq_true rfl)) dX1_canBe_6 ⟨Nat.le_refl _, Nat.le_refl _⟩) hS (fun q _ hq => hq.elim) (fun q hq => hq.elim) (fun r u t H1 locs ht hvm hw hB hz hk hS => ?_)
    replace hw := hw.symm; subst hw
    clear hB hk hz hvm ht; generalize H1 = H at hS ⊢
    refine lv_goto (tgt := 40) hx hb dX1_canBe_9 (by decide) ?_
    obtain ⟨g6, hf⟩ := dz_go hf
    exact W.zret (v := x5) hx hb hr (dz_nz g6) (fun t ht hW => ⟨⟨x5, (), rfl, Option.some.inj hf, trivial⟩, hS.F ht⟩) hS.2.2 dX1_canBe_40

noncomputable def fnX1_alter (K : Nat) (a0 : Int32) (a1 : Int32) (a2 : Int32) (a3 : Int32) (a4 : Int32) (σ : pM) : Option (Int32 × pM) := dz_c (fnX1_isRow K a0 a1 a2 σ) fun x1 s2 => if x1 = (0 : Int32) then (some ((-1), s2)) else (if a1 = (0 : Int32) then (dz_b (fnX1_in K (Int32.toInt64 a3) 0 2) fun x3 => if x3 = (0 : Int32) then (some ((-1), s2)) else (dz_b (fnX1_canBe K a3 a4) fun x4 => if x4 = (0 : Int32) then (some ((-1), s2)) else (if a3 = (2 : Int32) then (dz_l ((9 * a0) + a2) fun x25 => if ¬ (x25 < 0 ∨ 1044 ≤ Int32.toNatClampNeg x25) then (dz_l (s2.2.2.1 16 (Int32.toNatClampNeg x25)) fun x27 => if ¬ (((9 * a0) + a2) < 0 ∨ 1044 ≤ Int32.toNatClampNeg ((9 * a0) + a2)) then (dz_l (mI s2 16 (Int32.toNatClampNeg ((9 * a0) + a2)) a4) fun s29 => some (x27, s29)) else none) else none) else (if a3 = (1 : Int32) then (if a1 = (0 : Int32) then (dz_l ((9 * a0) + a2) fun x15 => if ¬ (x15 < 0 ∨ 1044 ≤ Int32.toNatClampNeg x15) then (dz_l (s2.2.2.1 15 (Int32.toNatClampNeg x15)) fun x17 => if ¬ (((9 * a0) + a2) < 0 ∨ 1044 ≤ Int32.toNatClampNeg ((9 * a0) + a2)) then (dz_l (mI s2 15 (Int32.toNatClampNeg ((9 * a0) + a2)) a4) fun s19 => some (x17, s19)) else none) else none) else (dz_l ((9 * a0) + a2) fun x20 => if ¬ (x20 < 0 ∨ 1044 ≤ Int32.toNatClampNeg x20) then (dz_l (s2.2.2.1 18 (Int32.toNatClampNeg x20)) fun x22 => if ¬ (((9 * a0) + a2) < 0 ∨ 1044 ≤ Int32.toNatClampNeg ((9 * a0) + a2)) then (dz_l (mI s2 18 (Int32.toNatClampNeg ((9 * a0) + a2)) a4) fun s24 => some (x22, s24)) else none) else none)) else (if a1 = (0 : Int32) then (dz_l ((9 * a0) + a2) fun x5 => if ¬ (x5 < 0 ∨ 1044 ≤ Int32.toNatClampNeg x5) then (dz_l (s2.2.2.1 14 (Int32.toNatClampNeg x5)) fun x7 => if ¬ (((9 * a0) + a2) < 0 ∨ 1044 ≤ Int32.toNatClampNeg ((9 * a0) + a2)) then (dz_l (mI s2 14 (Int32.toNatClampNeg ((9 * a0) + a2)) a4) fun s9 => some (x7, s9)) else none) else none) else (dz_l ((9 * a0) + a2) fun x10 => if ¬ (x10 < 0 ∨ 1044 ≤ Int32.toNatClampNeg x10) then (dz_l (s2.2.2.1 17 (Int32.toNatClampNeg x10)) fun x12 => if ¬ (((9 * a0) + a2) < 0 ∨ 1044 ≤ Int32.toNatClampNeg ((9 * a0) + a2)) then (dz_l (mI s2 17 (Int32.toNatClampNeg ((9 * a0) + a2)) a4) fun s14 => some (x12, s14)) else none) else none)))))) else (dz_b (fnX1_in K (Int32.toInt64 a3) 0 1) fun x30 => if x30 = (0 : Int32) then (some ((-1), s2)) else (dz_b (fnX1_canBe K a3 a4) fun x31 => if x31 = (0 : Int32) then (some ((-1), s2)) else (if a3 = (2 : Int32) then (dz_l ((9 * a0) + a2) fun x52 => if ¬ (x52 < 0 ∨ 1044 ≤ Int32.toNatClampNeg x52) then (dz_l (s2.2.2.1 16 (Int32.toNatClampNeg x52)) fun x54 => if ¬ (((9 * a0) + a2) < 0 ∨ 1044 ≤ Int32.toNatClampNeg ((9 * a0) + a2)) then (dz_l (mI s2 16 (Int32.toNatClampNeg ((9 * a0) + a2)) a4) fun s56 => some (x54, s56)) else none) else none) else (if a3 = (1 : Int32) then (if a1 = (0 : Int32) then (dz_l ((9 * a0) + a2) fun x42 => if ¬ (x42 < 0 ∨ 1044 ≤ Int32.toNatClampNeg x42) then (dz_l (s2.2.2.1 15 (Int32.toNatClampNeg x42)) fun x44 => if ¬ (((9 * a0) + a2) < 0 ∨ 1044 ≤ Int32.toNatClampNeg ((9 * a0) + a2)) then (dz_l (mI s2 15 (Int32.toNatClampNeg ((9 * a0) + a2)) a4) fun s46 => some (x44, s46)) else none) else none) else (dz_l ((9 * a0) + a2) fun x47 => if ¬ (x47 < 0 ∨ 1044 ≤ Int32.toNatClampNeg x47) then (dz_l (s2.2.2.1 18 (Int32.toNatClampNeg x47)) fun x49 => if ¬ (((9 * a0) + a2) < 0 ∨ 1044 ≤ Int32.toNatClampNeg ((9 * a0) + a2)) then (dz_l (mI s2 18 (Int32.toNatClampNeg ((9 * a0) + a2)) a4) fun s51 => some (x49, s51)) else none) else none)) else (if a1 = (0 : Int32) then (dz_l ((9 * a0) + a2) fun x32 => if ¬ (x32 < 0 ∨ 1044 ≤ Int32.toNatClampNeg x32) then (dz_l (s2.2.2.1 14 (Int32.toNatClampNeg x32)) fun x34 => if ¬ (((9 * a0) + a2) < 0 ∨ 1044 ≤ Int32.toNatClampNeg ((9 * a0) + a2)) then (dz_l (mI s2 14 (Int32.toNatClampNeg ((9 * a0) + a2)) a4) fun s36 => some (x34, s36)) else none) else none) else (dz_l ((9 * a0) + a2) fun x37 => if ¬ (x37 < 0 ∨ 1044 ≤ Int32.toNatClampNeg x37) then (dz_l (s2.2.2.1 17 (Int32.toNatClampNeg x37)) fun x39 => if ¬ (((9 * a0) + a2) < 0 ∨ 1044 ≤ Int32.toNatClampNeg ((9 * a0) + a2)) then (dz_l (mI s2 17 (Int32.toNatClampNeg ((9 * a0) + a2)) a4) fun s41 => some (x39, s41)) else none) else none)))))))
set_option maxHeartbeats 4000000 in
set_option maxRecDepth 100000 in
theorem mtX1_alter (l : Launch) (D : va_G) (cl : List vw_C) (ci : Nat) (hci : cl[ci]? = some (RX1, TX1, 35)) (h : Nat) (ad : Nat → Nat) (cA : Nat → ClassId) (sz : Nat) (σ : pM) (a0 : Int32) (a1 : Int32) (a2 : Int32) (a3 : Int32) (a4 : Int32) (K : Nat) (res : (Int32 × pM)) (hf : fnX1_alter K a0 a1 a2 a3 a4 σ = some res) : Met l yX1_alter (ws_ yX1_alter cX1_alter 8 (some .int)) ({ frames := 3, cells := 0, slots := 0, locals := 69 }) (mPc D cl ci h ad cA sz σ [.ref h, .int a0, .int a1, .int a2, .int a3, .int a4]) (mQi D cl ci h ad cA (va_A (mw ci h ad cA σ) sz) res) 0 0 (va_A (mw ci h ad cA σ) sz) := by
  refine Met.ofW (cc := cX1_alter) (maxL := 8) (ret := some .int) (by decide +kernel) rfl ?_
  intro p e s m args below meth c s₁ B hml hv
  obtain ⟨rfl, hsz, hP, hK, hD0⟩ := hv
  have hx := B.exec
  have hb := B.bytes
  have hr := B.returns
  have hts := atoms_spec (ws := ws_ yX1_alter cX1_alter 8 (some .int)) B.pre
  have hts : ∀ w ∈ lw_all, w.before _ s = true := fun w h => hts w (List.mem_cons_of_mem _ h)
  have hown : s.vm.findClass RX1 = some m.cls := findClass_of_methodNamed B.named
  have hlocks := B.notSynchronized
  subst hsz
  have hD := hD0.self (sz := s.heap.size)
  generalize hAe : va_A (mw ci h ad cA σ) s.heap.size = A at hD ⊢
  have hA : ∀ q : Nat, s.heap.size ≤ q → A q := fun q h => by rw [← hAe]; exact Or.inr h
  clear hAe hD0
  have hS : va_S A s.heap s.heap [] := va_S.rf
  generalize hHe : s.heap = H at hP hS ⊢
  have hS : va_S A s.heap H [] := by rw [hHe]; exact hS
  generalize ([] : List Loc) = locs at hS ⊢
  have hl := lv_entry ([.ref h, .int a0, .int a1, .int a2, .int a3, .int a4]) (n := 8) (Nat.le_of_ble_eq_true rfl)
  rw [lg_entry_eq]
  generalize (lg_sl ([.ref h, .int a0, .int a1, .int a2, .int a3, .int a4]) ++ List.replicate (8 - (lg_sl ([.ref h, .int a0, .int a1, .int a2, .int a3, .int a4])).length) Slot.unset).toArray = ls at hl ⊢
  have hl : lv_has ls 8 [(0, .ref h), (1, .int a0), (2, .int a1), (3, .int a2), (4, .int a3), (5, .int a4)] := hl
  have hf : (dz_c (fnX1_isRow K a0 a1 a2 σ) fun x1 s2 => if x1 = (0 : Int32) then (some ((-1), s2)) else (if a1 = (0 : Int32) then (dz_b (fnX1_in K (Int32.toInt64 a3) 0 2) fun x3 => if x3 = (0 : Int32) then (some ((-1), s2)) else (dz_b (fnX1_canBe K a3 a4) fun x4 => if x4 = (0 : Int32) then (some ((-1), s2)) else (if a3 = (2 : Int32) then (dz_l ((9 * a0) + a2) fun x25 => if ¬ (x25 < 0 ∨ 1044 ≤ Int32.toNatClampNeg x25) then (dz_l (s2.2.2.1 16 (Int32.toNatClampNeg x25)) fun x27 => if ¬ (((9 * a0) + a2) < 0 ∨ 1044 ≤ Int32.toNatClampNeg ((9 * a0) + a2)) then (dz_l (mI s2 16 (Int32.toNatClampNeg ((9 * a0) + a2)) a4) fun s29 => some (x27, s29)) else none) else none) else (if a3 = (1 : Int32) then (if a1 = (0 : Int32) then (dz_l ((9 * a0) + a2) fun x15 => if ¬ (x15 < 0 ∨ 1044 ≤ Int32.toNatClampNeg x15) then (dz_l (s2.2.2.1 15 (Int32.toNatClampNeg x15)) fun x17 => if ¬ (((9 * a0) + a2) < 0 ∨ 1044 ≤ Int32.toNatClampNeg ((9 * a0) + a2)) then (dz_l (mI s2 15 (Int32.toNatClampNeg ((9 * a0) + a2)) a4) fun s19 => some (x17, s19)) else none) else none) else (dz_l ((9 * a0) + a2) fun x20 => if ¬ (x20 < 0 ∨ 1044 ≤ Int32.toNatClampNeg x20) then (dz_l (s2.2.2.1 18 (Int32.toNatClampNeg x20)) fun x22 => if ¬ (((9 * a0) + a2) < 0 ∨ 1044 ≤ Int32.toNatClampNeg ((9 * a0) + a2)) then (dz_l (mI s2 18 (Int32.toNatClampNeg ((9 * a0) + a2)) a4) fun s24 => some (x22, s24)) else none) else none)) else (if a1 = (0 : Int32) then (dz_l ((9 * a0) + a2) fun x5 => if ¬ (x5 < 0 ∨ 1044 ≤ Int32.toNatClampNeg x5) then (dz_l (s2.2.2.1 14 (Int32.toNatClampNeg x5)) fun x7 => if ¬ (((9 * a0) + a2) < 0 ∨ 1044 ≤ Int32.toNatClampNeg ((9 * a0) + a2)) then (dz_l (mI s2 14 (Int32.toNatClampNeg ((9 * a0) + a2)) a4) fun s9 => some (x7, s9)) else none) else none) else (dz_l ((9 * a0) + a2) fun x10 => if ¬ (x10 < 0 ∨ 1044 ≤ Int32.toNatClampNeg x10) then (dz_l (s2.2.2.1 17 (Int32.toNatClampNeg x10)) fun x12 => if ¬ (((9 * a0) + a2) < 0 ∨ 1044 ≤ Int32.toNatClampNeg ((9 * a0) + a2)) then (dz_l (mI s2 17 (Int32.toNatClampNeg ((9 * a0) + a2)) a4) fun s14 => some (x12, s14)) else none) else none)))))) else (dz_b (fnX1_in K (Int32.toInt64 a3) 0 1) fun x30 => if x30 = (0 : Int32) then (some ((-1), s2)) else (dz_b (fnX1_canBe K a3 a4) fun x31 => if x31 = (0 : Int32) then (some ((-1), s2)) else (if a3 = (2 : Int32) then (dz_l ((9 * a0) + a2) fun x52 => if ¬ (x52 < 0 ∨ 1044 ≤ Int32.toNatClampNeg x52) then (dz_l (s2.2.2.1 16 (Int32.toNatClampNeg x52)) fun x54 => if ¬ (((9 * a0) + a2) < 0 ∨ 1044 ≤ Int32.toNatClampNeg ((9 * a0) + a2)) then (dz_l (mI s2 16 (Int32.toNatClampNeg ((9 * a0) + a2)) a4) fun s56 => some (x54, s56)) else none) else none) else (if a3 = (1 : Int32) then (if a1 = (0 : Int32) then (dz_l ((9 * a0) + a2) fun x42 => if ¬ (x42 < 0 ∨ 1044 ≤ Int32.toNatClampNeg x42) then (dz_l (s2.2.2.1 15 (Int32.toNatClampNeg x42)) fun x44 => if ¬ (((9 * a0) + a2) < 0 ∨ 1044 ≤ Int32.toNatClampNeg ((9 * a0) + a2)) then (dz_l (mI s2 15 (Int32.toNatClampNeg ((9 * a0) + a2)) a4) fun s46 => some (x44, s46)) else none) else none) else (dz_l ((9 * a0) + a2) fun x47 => if ¬ (x47 < 0 ∨ 1044 ≤ Int32.toNatClampNeg x47) then (dz_l (s2.2.2.1 18 (Int32.toNatClampNeg x47)) fun x49 => if ¬ (((9 * a0) + a2) < 0 ∨ 1044 ≤ Int32.toNatClampNeg ((9 * a0) + a2)) then (dz_l (mI s2 18 (Int32.toNatClampNeg ((9 * a0) + a2)) a4) fun s51 => some (x49, s51)) else none) else none)) else (if a1 = (0 : Int32) then (dz_l ((9 * a0) + a2) fun x32 => if ¬ (x32 < 0 ∨ 1044 ≤ Int32.toNatClampNeg x32) then (dz_l (s2.2.2.1 14 (Int32.toNatClampNeg x32)) fun x34 => if ¬ (((9 * a0) + a2) < 0 ∨ 1044 ≤ Int32.toNatClampNeg ((9 * a0) + a2)) then (dz_l (mI s2 14 (Int32.toNatClampNeg ((9 * a0) + a2)) a4) fun s36 => some (x34, s36)) else none) else none) else (dz_l ((9 * a0) + a2) fun x37 => if ¬ (x37 < 0 ∨ 1044 ≤ Int32.toNatClampNeg x37) then (dz_l (s2.2.2.1 17 (Int32.toNatClampNeg x37)) fun x39 => if ¬ (((9 * a0) + a2) < 0 ∨ 1044 ≤ Int32.toNatClampNeg ((9 * a0) + a2)) then (dz_l (mI s2 17 (Int32.toNatClampNeg ((9 * a0) + a2)) a4) fun s41 => some (x39, s41)) else none) else none))))))) : Option (Int32 × pM)) = some res := hf
  refine lv_aload_n hx hb dX1_alter_0 rfl (lv_at hl 0 rfl) ?_
  refine lv_iload_n hx hb dX1_alter_1 rfl (lv_at hl 1 rfl) ?_
  refine lv_iload_n hx hb dX1_alter_2 rfl (lv_at hl 2 rfl) ?_
  refine lv_iload_n hx hb dX1_alter_3 rfl (lv_at hl 3 rfl) ?_
  obtain ⟨x1, s2, hx1, hf⟩ := dz_co hf
  have hFc := dz_free hD hS hA
  refine va_calli (va_runV (As := [.int a0, .int a1, .int a2]) (rest := []) ⟨hx, hb, hml, hown, hts⟩ (mtX1_isRow l D cl ci hci h ad cA H.size σ a0 a1 a2 K (x1, s2) hx1) (cwV 3 hts (lw_V q2030 q2032 qs76 q88 q2033) rfl rfl rfl (by decide +kernel) ⟨Nat.le_of_ble_eq_true rfl, Nat.le_of_ble_eq_true rfl⟩) (m_preV hci hK hP hD) rfl rfl hl.1 rfl (lv_room (Nat.le_of_ble_eq_true rfl)) dX1_alter_4 ⟨Nat.le_refl _, Nat.le_refl _⟩) hS (fun q _ hq => hFc q hq) hFc (fun r u t H1 locs ht hvm hw hB hz hk hS => ?_)
  obtain ⟨hw1, hw2⟩ := Prod.mk.inj hw.symm; subst hw1; subst hw2
  replace hP := m_back ht hB
  replace hD := mw_D s2 hD
  clear hB hk hz hvm ht hFc; generalize H1 = H at hP hS ⊢
  refine lv_if_eq (tgt := 41) hx hb dX1_alter_7 (by decide) (fun c7 => ?_) (fun c7 => ?_)
  · have hf := dz_t c7 hf
    refine lv_iconst (v := (-1)) hx hb dX1_alter_41 (by decide) ?_
    exact W.iret (v := (-1)) hx hb hr (fun t ht hW => ⟨⟨(-1), s2, rfl, Option.some.inj hf, by rw [ht]; exact hP, va_K.moved hW.alike hK, hD⟩, hS.F ht⟩) hS.2.2 dX1_alter_42
  · have hf := dz_f c7 hf
    refine lv_iload hx hb dX1_alter_10 (lv_at hl 4 rfl) ?_
    refine lv_i2l hx hb dX1_alter_12 (rfl : _ = Int32.toInt64 a3) ?_
    refine lv_lconst (v := 0) hx hb dX1_alter_13 rfl ?_
    refine lv_iload_n hx hb dX1_alter_14 rfl (lv_at hl 2 rfl) ?_
    refine lv_if_eq (tgt := 22) hx hb dX1_alter_15 (by decide) (fun c15 => ?_) (fun c15 => ?_)
    · have hf := dz_t c15 hf
      refine lv_ldc2 (v := 2) hx hb hown (hts _ q1789) dX1_alter_22 ?_
      obtain ⟨x3, hx3, hf⟩ := dz_bo hf
      refine va_calli (va_runS (As := [.long (Int32.toInt64 a3), .long 0, .long 2]) (rest := []) ⟨hx, hb, hml, hown, hts⟩ (mtX1_in l (Int32.toInt64 a3) 0 2 K x3 hx3) (va_cwS 3 hts (lw_S q1783 q1784 q88 q1785) rfl rfl rfl (by decide +kernel) ⟨Nat.le_of_ble_eq_true rfl, Nat.le_of_ble_eq_true rfl⟩) ⟨fun a U g mk q => q, fun U hU hW => ⟨rfl, trivial⟩⟩ rfl rfl hl.1 rfl (lv_room (Nat.le_of_ble_eq_true rfl)) dX1_alter_25 ⟨Nat.le_refl _, Nat.le_refl _⟩) hS (fun q _ hq => hq.elim) (fun q hq => hq.elim) (fun r u t H1 locs ht hvm hw hB hz hk hS => ?_)
      replace hw := hw.symm; subst hw
      replace hP := dz_keep hP hk
      clear hB hk hz hvm ht; generalize H1 = H at hP hS ⊢
      refine lv_if_eq (tgt := 41) hx hb dX1_alter_28 (by decide) (fun c28 => ?_) (fun c28 => ?_)
      · have hf := dz_t c28 hf
        refine lv_iconst (v := (-1)) hx hb dX1_alter_41 (by decide) ?_
        exact W.iret (v := (-1)) hx hb hr (fun t ht hW => ⟨⟨(-1), s2, rfl, Option.some.inj hf, by rw [ht]; exact hP, va_K.moved hW.alike hK, hD⟩, hS.F ht⟩) hS.2.2 dX1_alter_42
      · have hf := dz_f c28 hf
        refine lv_iload hx hb dX1_alter_31 (lv_at hl 4 rfl) ?_
        refine lv_iload hx hb dX1_alter_33 (lv_at hl 5 rfl) ?_
        obtain ⟨x4, hx4, hf⟩ := dz_bo hf
        refine va_calli (va_runS (As := [.int a3, .int a4]) (rest := []) ⟨hx, hb, hml, hown, hts⟩ (mtX1_canBe l a3 a4 K x4 hx4) (va_cwS 2 hts (lw_S q2034 q2035 q88 q2036) rfl rfl rfl (by decide +kernel) ⟨Nat.le_of_ble_eq_true rfl, Nat.le_of_ble_eq_true rfl⟩) ⟨fun a U g mk q => q, fun U hU hW => ⟨rfl, trivial⟩⟩ rfl rfl hl.1 rfl (lv_room (Nat.le_of_ble_eq_true rfl)) dX1_alter_35 ⟨Nat.le_refl _, Nat.le_refl _⟩) hS (fun q _ hq => hq.elim) (fun q hq => hq.elim) (fun r u t H1 locs ht hvm hw hB hz hk hS => ?_)
        replace hw := hw.symm; subst hw
        replace hP := dz_keep hP hk
        clear hB hk hz hvm ht; generalize H1 = H at hP hS ⊢
        refine lv_if_ne (tgt := 43) hx hb dX1_alter_38 (by decide) (fun c38 => ?_) (fun c38 => ?_)
        · have hf := dz_f c38 hf
          refine lv_iload hx hb dX1_alter_43 (lv_at hl 4 rfl) ?_
          refine lv_iconst (v := 2) hx hb dX1_alter_45 (by decide) ?_
          refine lv_icmp_ne (tgt := 56) hx hb dX1_alter_46 (by decide) (fun c46 => ?_) (fun c46 => ?_)
          · have hf := dz_f c46 hf
            refine lv_iload hx hb dX1_alter_56 (lv_at hl 4 rfl) ?_
            refine lv_iconst (v := 1) hx hb dX1_alter_58 (by decide) ?_
            refine lv_icmp_ne (tgt := 80) hx hb dX1_alter_59 (by decide) (fun c59 => ?_) (fun c59 => ?_)
            · have hf := dz_f c59 hf
              refine lv_iload_n hx hb dX1_alter_80 rfl (lv_at hl 2 rfl) ?_
              refine lv_if_eq (tgt := 91) hx hb dX1_alter_81 (by decide) (fun c81 => ?_) (fun c81 => ?_)
              · have hf := dz_t c81 hf
                refine lv_aload_n hx hb dX1_alter_91 rfl (lv_at hl 0 rfl) ?_
                refine va_get (C := RX1) (T := TX1) (N := 35) (fs := mwF ad s2) (v := .ref (ad 14)) hx hb hts in_X1 hown hK hP 0 rfl hci 14 (by decide) (hts _ q1685) (fun _ hq => hq) rfl dX1_alter_92 ?_
                refine lv_astore (lv' := [(6, .ref (ad 14)), (0, .ref h), (1, .int a0), (2, .int a1), (3, .int a2), (4, .int a3), (5, .int a4)]) hx hb dX1_alter_95 hl (by decide) rfl (fun ls hl => ?_)
                refine lv_aload hx hb dX1_alter_97 (lv_at hl 0 rfl) ?_
                refine lv_bipush (v := 9) hx hb dX1_alter_99 (by decide) ?_
                refine lv_iload_n hx hb dX1_alter_101 rfl (lv_at hl 2 rfl) ?_
                refine lv_imul hx hb dX1_alter_102 ?_
                refine lv_iload_n hx hb dX1_alter_103 rfl (lv_at hl 4 rfl) ?_
                refine lv_iadd hx hb dX1_alter_104 ?_
                refine lv_topi (fun x5 e_x5 => ?_)
                have hf := dz_ls e_x5 hf
                obtain ⟨g6, hf⟩ := dz_go hf
                refine va_iald hx hb hK hP 12 0 rfl rfl g6 dX1_alter_105 ?_
                refine lv_topi (fun x7 e_x7 => ?_)
                have hf := dz_ls e_x7 hf
                refine lv_istore (lv' := [(7, .int x7), (6, .ref (ad 14)), (0, .ref h), (1, .int a0), (2, .int a1), (3, .int a2), (4, .int a3), (5, .int a4)]) hx hb dX1_alter_106 hl (by decide) rfl (fun ls hl => ?_)
                refine lv_aload hx hb dX1_alter_108 (lv_at hl 1 rfl) ?_
                refine lv_bipush (v := 9) hx hb dX1_alter_110 (by decide) ?_
                refine lv_iload_n hx hb dX1_alter_112 rfl (lv_at hl 3 rfl) ?_
                refine lv_imul hx hb dX1_alter_113 ?_
                refine lv_iload_n hx hb dX1_alter_114 rfl (lv_at hl 5 rfl) ?_
                refine lv_iadd hx hb dX1_alter_115 ?_
                refine lv_iload hx hb dX1_alter_116 (lv_at hl 7 rfl) ?_
                obtain ⟨g8, hf⟩ := dz_go hf
                refine va_iast hx hb hK hP hD hS 12 0 rfl rfl g8 dX1_alter_118 (fun H locs hP1 _ hS => ?_)
                obtain ⟨s9, e_s9, hf⟩ := dz_lo hf
                have hP : va_P D cl (mw ci h ad cA s9) H := by rw [e_s9]; exact hP1
                clear hP1; replace hD := mw_D s9 hD
                refine lv_iload hx hb dX1_alter_119 (lv_at hl 0 rfl) ?_
                exact W.iret (v := x7) hx hb hr (fun t ht hW => ⟨⟨x7, s9, rfl, Option.some.inj hf, by rw [ht]; exact hP, va_K.moved hW.alike hK, hD⟩, hS.F ht⟩) hS.2.2 dX1_alter_121
              · have hf := dz_f c81 hf
                refine lv_aload_n hx hb dX1_alter_84 rfl (lv_at hl 0 rfl) ?_
                refine va_get (C := RX1) (T := TX1) (N := 35) (fs := mwF ad s2) (v := .ref (ad 17)) hx hb hts in_X1 hown hK hP 0 rfl hci 17 (by decide) (hts _ q1688) (fun _ hq => hq) rfl dX1_alter_85 ?_
                refine lv_goto (tgt := 95) hx hb dX1_alter_88 (by decide) ?_
                refine lv_astore (lv' := [(6, .ref (ad 17)), (0, .ref h), (1, .int a0), (2, .int a1), (3, .int a2), (4, .int a3), (5, .int a4)]) hx hb dX1_alter_95 hl (by decide) rfl (fun ls hl => ?_)
                refine lv_aload hx hb dX1_alter_97 (lv_at hl 0 rfl) ?_
                refine lv_bipush (v := 9) hx hb dX1_alter_99 (by decide) ?_
                refine lv_iload_n hx hb dX1_alter_101 rfl (lv_at hl 2 rfl) ?_
                refine lv_imul hx hb dX1_alter_102 ?_
                refine lv_iload_n hx hb dX1_alter_103 rfl (lv_at hl 4 rfl) ?_
                refine lv_iadd hx hb dX1_alter_104 ?_
                refine lv_topi (fun x10 e_x10 => ?_)
                have hf := dz_ls e_x10 hf
                obtain ⟨g11, hf⟩ := dz_go hf
                refine va_iald hx hb hK hP 15 0 rfl rfl g11 dX1_alter_105 ?_
                refine lv_topi (fun x12 e_x12 => ?_)
                have hf := dz_ls e_x12 hf
                refine lv_istore (lv' := [(7, .int x12), (6, .ref (ad 17)), (0, .ref h), (1, .int a0), (2, .int a1), (3, .int a2), (4, .int a3), (5, .int a4)]) hx hb dX1_alter_106 hl (by decide) rfl (fun ls hl => ?_)
                refine lv_aload hx hb dX1_alter_108 (lv_at hl 1 rfl) ?_
                refine lv_bipush (v := 9) hx hb dX1_alter_110 (by decide) ?_
                refine lv_iload_n hx hb dX1_alter_112 rfl (lv_at hl 3 rfl) ?_
                refine lv_imul hx hb dX1_alter_113 ?_
                refine lv_iload_n hx hb dX1_alter_114 rfl (lv_at hl 5 rfl) ?_
                refine lv_iadd hx hb dX1_alter_115 ?_
                refine lv_iload hx hb dX1_alter_116 (lv_at hl 7 rfl) ?_
                obtain ⟨g13, hf⟩ := dz_go hf
                refine va_iast hx hb hK hP hD hS 15 0 rfl rfl g13 dX1_alter_118 (fun H locs hP1 _ hS => ?_)
                obtain ⟨s14, e_s14, hf⟩ := dz_lo hf
                have hP : va_P D cl (mw ci h ad cA s14) H := by rw [e_s14]; exact hP1
                clear hP1; replace hD := mw_D s14 hD
                refine lv_iload hx hb dX1_alter_119 (lv_at hl 0 rfl) ?_
                exact W.iret (v := x12) hx hb hr (fun t ht hW => ⟨⟨x12, s14, rfl, Option.some.inj hf, by rw [ht]; exact hP, va_K.moved hW.alike hK, hD⟩, hS.F ht⟩) hS.2.2 dX1_alter_121
            · have hf := dz_t c59 hf
              refine lv_iload_n hx hb dX1_alter_62 rfl (lv_at hl 2 rfl) ?_
              refine lv_if_eq (tgt := 73) hx hb dX1_alter_63 (by decide) (fun c63 => ?_) (fun c63 => ?_)
              · have hf := dz_t c63 hf
                refine lv_aload_n hx hb dX1_alter_73 rfl (lv_at hl 0 rfl) ?_
                refine va_get (C := RX1) (T := TX1) (N := 35) (fs := mwF ad s2) (v := .ref (ad 15)) hx hb hts in_X1 hown hK hP 0 rfl hci 15 (by decide) (hts _ q1686) (fun _ hq => hq) rfl dX1_alter_74 ?_
                refine lv_goto (tgt := 95) hx hb dX1_alter_77 (by decide) ?_
                refine lv_astore (lv' := [(6, .ref (ad 15)), (0, .ref h), (1, .int a0), (2, .int a1), (3, .int a2), (4, .int a3), (5, .int a4)]) hx hb dX1_alter_95 hl (by decide) rfl (fun ls hl => ?_)
                refine lv_aload hx hb dX1_alter_97 (lv_at hl 0 rfl) ?_
                refine lv_bipush (v := 9) hx hb dX1_alter_99 (by decide) ?_
                refine lv_iload_n hx hb dX1_alter_101 rfl (lv_at hl 2 rfl) ?_
                refine lv_imul hx hb dX1_alter_102 ?_
                refine lv_iload_n hx hb dX1_alter_103 rfl (lv_at hl 4 rfl) ?_
                refine lv_iadd hx hb dX1_alter_104 ?_
                refine lv_topi (fun x15 e_x15 => ?_)
                have hf := dz_ls e_x15 hf
                obtain ⟨g16, hf⟩ := dz_go hf
                refine va_iald hx hb hK hP 13 0 rfl rfl g16 dX1_alter_105 ?_
                refine lv_topi (fun x17 e_x17 => ?_)
                have hf := dz_ls e_x17 hf
                refine lv_istore (lv' := [(7, .int x17), (6, .ref (ad 15)), (0, .ref h), (1, .int a0), (2, .int a1), (3, .int a2), (4, .int a3), (5, .int a4)]) hx hb dX1_alter_106 hl (by decide) rfl (fun ls hl => ?_)
                refine lv_aload hx hb dX1_alter_108 (lv_at hl 1 rfl) ?_
                refine lv_bipush (v := 9) hx hb dX1_alter_110 (by decide) ?_
                refine lv_iload_n hx hb dX1_alter_112 rfl (lv_at hl 3 rfl) ?_
                refine lv_imul hx hb dX1_alter_113 ?_
                refine lv_iload_n hx hb dX1_alter_114 rfl (lv_at hl 5 rfl) ?_
                refine lv_iadd hx hb dX1_alter_115 ?_
                refine lv_iload hx hb dX1_alter_116 (lv_at hl 7 rfl) ?_
                obtain ⟨g18, hf⟩ := dz_go hf
                refine va_iast hx hb hK hP hD hS 13 0 rfl rfl g18 dX1_alter_118 (fun H locs hP1 _ hS => ?_)
                obtain ⟨s19, e_s19, hf⟩ := dz_lo hf
                have hP : va_P D cl (mw ci h ad cA s19) H := by rw [e_s19]; exact hP1
                clear hP1; replace hD := mw_D s19 hD
                refine lv_iload hx hb dX1_alter_119 (lv_at hl 0 rfl) ?_
                exact W.iret (v := x17) hx hb hr (fun t ht hW => ⟨⟨x17, s19, rfl, Option.some.inj hf, by rw [ht]; exact hP, va_K.moved hW.alike hK, hD⟩, hS.F ht⟩) hS.2.2 dX1_alter_121
              · have hf := dz_f c63 hf
                refine lv_aload_n hx hb dX1_alter_66 rfl (lv_at hl 0 rfl) ?_
                refine va_get (C := RX1) (T := TX1) (N := 35) (fs := mwF ad s2) (v := .ref (ad 18)) hx hb hts in_X1 hown hK hP 0 rfl hci 18 (by decide) (hts _ q1689) (fun _ hq => hq) rfl dX1_alter_67 ?_
                refine lv_goto (tgt := 95) hx hb dX1_alter_70 (by decide) ?_
                refine lv_astore (lv' := [(6, .ref (ad 18)), (0, .ref h), (1, .int a0), (2, .int a1), (3, .int a2), (4, .int a3), (5, .int a4)]) hx hb dX1_alter_95 hl (by decide) rfl (fun ls hl => ?_)
                refine lv_aload hx hb dX1_alter_97 (lv_at hl 0 rfl) ?_
                refine lv_bipush (v := 9) hx hb dX1_alter_99 (by decide) ?_
                refine lv_iload_n hx hb dX1_alter_101 rfl (lv_at hl 2 rfl) ?_
                refine lv_imul hx hb dX1_alter_102 ?_
                refine lv_iload_n hx hb dX1_alter_103 rfl (lv_at hl 4 rfl) ?_
                refine lv_iadd hx hb dX1_alter_104 ?_
                refine lv_topi (fun x20 e_x20 => ?_)
                have hf := dz_ls e_x20 hf
                obtain ⟨g21, hf⟩ := dz_go hf
                refine va_iald hx hb hK hP 16 0 rfl rfl g21 dX1_alter_105 ?_
                refine lv_topi (fun x22 e_x22 => ?_)
                have hf := dz_ls e_x22 hf
                refine lv_istore (lv' := [(7, .int x22), (6, .ref (ad 18)), (0, .ref h), (1, .int a0), (2, .int a1), (3, .int a2), (4, .int a3), (5, .int a4)]) hx hb dX1_alter_106 hl (by decide) rfl (fun ls hl => ?_)
                refine lv_aload hx hb dX1_alter_108 (lv_at hl 1 rfl) ?_
                refine lv_bipush (v := 9) hx hb dX1_alter_110 (by decide) ?_
                refine lv_iload_n hx hb dX1_alter_112 rfl (lv_at hl 3 rfl) ?_
                refine lv_imul hx hb dX1_alter_113 ?_
                refine lv_iload_n hx hb dX1_alter_114 rfl (lv_at hl 5 rfl) ?_
                refine lv_iadd hx hb dX1_alter_115 ?_
                refine lv_iload hx hb dX1_alter_116 (lv_at hl 7 rfl) ?_
                obtain ⟨g23, hf⟩ := dz_go hf
                refine va_iast hx hb hK hP hD hS 16 0 rfl rfl g23 dX1_alter_118 (fun H locs hP1 _ hS => ?_)
                obtain ⟨s24, e_s24, hf⟩ := dz_lo hf
                have hP : va_P D cl (mw ci h ad cA s24) H := by rw [e_s24]; exact hP1
                clear hP1; replace hD := mw_D s24 hD
                refine lv_iload hx hb dX1_alter_119 (lv_at hl 0 rfl) ?_
                exact W.iret (v := x22) hx hb hr (fun t ht hW => ⟨⟨x22, s24, rfl, Option.some.inj hf, by rw [ht]; exact hP, va_K.moved hW.alike hK, hD⟩, hS.F ht⟩) hS.2.2 dX1_alter_121
          · have hf := dz_t c46 hf
            refine lv_aload_n hx hb dX1_alter_49 rfl (lv_at hl 0 rfl) ?_
            refine va_get (C := RX1) (T := TX1) (N := 35) (fs := mwF ad s2) (v := .ref (ad 16)) hx hb hts in_X1 hown hK hP 0 rfl hci 16 (by decide) (hts _ q1687) (fun _ hq => hq) rfl dX1_alter_50 ?_
            refine lv_goto (tgt := 95) hx hb dX1_alter_53 (by decide) ?_
            refine lv_astore (lv' := [(6, .ref (ad 16)), (0, .ref h), (1, .int a0), (2, .int a1), (3, .int a2), (4, .int a3), (5, .int a4)]) hx hb dX1_alter_95 hl (by decide) rfl (fun ls hl => ?_)
            refine lv_aload hx hb dX1_alter_97 (lv_at hl 0 rfl) ?_
            refine lv_bipush (v := 9) hx hb dX1_alter_99 (by decide) ?_
            refine lv_iload_n hx hb dX1_alter_101 rfl (lv_at hl 2 rfl) ?_
            refine lv_imul hx hb dX1_alter_102 ?_
            refine lv_iload_n hx hb dX1_alter_103 rfl (lv_at hl 4 rfl) ?_
            refine lv_iadd hx hb dX1_alter_104 ?_
            refine lv_topi (fun x25 e_x25 => ?_)
            have hf := dz_ls e_x25 hf
            obtain ⟨g26, hf⟩ := dz_go hf
            refine va_iald hx hb hK hP 14 0 rfl rfl g26 dX1_alter_105 ?_
            refine lv_topi (fun x27 e_x27 => ?_)
            have hf := dz_ls e_x27 hf
            refine lv_istore (lv' := [(7, .int x27), (6, .ref (ad 16)), (0, .ref h), (1, .int a0), (2, .int a1), (3, .int a2), (4, .int a3), (5, .int a4)]) hx hb dX1_alter_106 hl (by decide) rfl (fun ls hl => ?_)
            refine lv_aload hx hb dX1_alter_108 (lv_at hl 1 rfl) ?_
            refine lv_bipush (v := 9) hx hb dX1_alter_110 (by decide) ?_
            refine lv_iload_n hx hb dX1_alter_112 rfl (lv_at hl 3 rfl) ?_
            refine lv_imul hx hb dX1_alter_113 ?_
            refine lv_iload_n hx hb dX1_alter_114 rfl (lv_at hl 5 rfl) ?_
            refine lv_iadd hx hb dX1_alter_115 ?_
            refine lv_iload hx hb dX1_alter_116 (lv_at hl 7 rfl) ?_
            obtain ⟨g28, hf⟩ := dz_go hf
            refine va_iast hx hb hK hP hD hS 14 0 rfl rfl g28 dX1_alter_118 (fun H locs hP1 _ hS => ?_)
            obtain ⟨s29, e_s29, hf⟩ := dz_lo hf
            have hP : va_P D cl (mw ci h ad cA s29) H := by rw [e_s29]; exact hP1
            clear hP1; replace hD := mw_D s29 hD
            refine lv_iload hx hb dX1_alter_119 (lv_at hl 0 rfl) ?_
            exact W.iret (v := x27) hx hb hr (fun t ht hW => ⟨⟨x27, s29, rfl, Option.some.inj hf, by rw [ht]; exact hP, va_K.moved hW.alike hK, hD⟩, hS.F ht⟩) hS.2.2 dX1_alter_121
        · have hf := dz_t c38 hf
          refine lv_iconst (v := (-1)) hx hb dX1_alter_41 (by decide) ?_
          exact W.iret (v := (-1)) hx hb hr (fun t ht hW => ⟨⟨(-1), s2, rfl, Option.some.inj hf, by rw [ht]; exact hP, va_K.moved hW.alike hK, hD⟩, hS.F ht⟩) hS.2.2 dX1_alter_42
    · have hf := dz_f c15 hf
      refine lv_lconst (v := 1) hx hb dX1_alter_18 rfl ?_
      refine lv_goto (tgt := 25) hx hb dX1_alter_19 (by decide) ?_
      obtain ⟨x30, hx30, hf⟩ := dz_bo hf
      refine va_calli (va_runS (As := [.long (Int32.toInt64 a3), .long 0, .long 1]) (rest := []) ⟨hx, hb, hml, hown, hts⟩ (mtX1_in l (Int32.toInt64 a3) 0 1 K x30 hx30) (va_cwS 3 hts (lw_S q1783 q1784 q88 q1785) rfl rfl rfl (by decide +kernel) ⟨Nat.le_of_ble_eq_true rfl, Nat.le_of_ble_eq_true rfl⟩) ⟨fun a U g mk q => q, fun U hU hW => ⟨rfl, trivial⟩⟩ rfl rfl hl.1 rfl (lv_room (Nat.le_of_ble_eq_true rfl)) dX1_alter_25 ⟨Nat.le_refl _, Nat.le_refl _⟩) hS (fun q _ hq => hq.elim) (fun q hq => hq.elim) (fun r u t H1 locs ht hvm hw hB hz hk hS => ?_)
      replace hw := hw.symm; subst hw
      replace hP := dz_keep hP hk
      clear hB hk hz hvm ht; generalize H1 = H at hP hS ⊢
      refine lv_if_eq (tgt := 41) hx hb dX1_alter_28 (by decide) (fun c28 => ?_) (fun c28 => ?_)
      · have hf := dz_t c28 hf
        refine lv_iconst (v := (-1)) hx hb dX1_alter_41 (by decide) ?_
        exact W.iret (v := (-1)) hx hb hr (fun t ht hW => ⟨⟨(-1), s2, rfl, Option.some.inj hf, by rw [ht]; exact hP, va_K.moved hW.alike hK, hD⟩, hS.F ht⟩) hS.2.2 dX1_alter_42
      · have hf := dz_f c28 hf
        refine lv_iload hx hb dX1_alter_31 (lv_at hl 4 rfl) ?_
        refine lv_iload hx hb dX1_alter_33 (lv_at hl 5 rfl) ?_
        obtain ⟨x31, hx31, hf⟩ := dz_bo hf
        refine va_calli (va_runS (As := [.int a3, .int a4]) (rest := []) ⟨hx, hb, hml, hown, hts⟩ (mtX1_canBe l a3 a4 K x31 hx31) (va_cwS 2 hts (lw_S q2034 q2035 q88 q2036) rfl rfl rfl (by decide +kernel) ⟨Nat.le_of_ble_eq_true rfl, Nat.le_of_ble_eq_true rfl⟩) ⟨fun a U g mk q => q, fun U hU hW => ⟨rfl, trivial⟩⟩ rfl rfl hl.1 rfl (lv_room (Nat.le_of_ble_eq_true rfl)) dX1_alter_35 ⟨Nat.le_refl _, Nat.le_refl _⟩) hS (fun q _ hq => hq.elim) (fun q hq => hq.elim) (fun r u t H1 locs ht hvm hw hB hz hk hS => ?_)
        replace hw := hw.symm; subst hw
        replace hP := dz_keep hP hk
        clear hB hk hz hvm ht; generalize H1 = H at hP hS ⊢
        refine lv_if_ne (tgt := 43) hx hb dX1_alter_38 (by decide) (fun c38 => ?_) (fun c38 => ?_)
        · have hf := dz_f c38 hf
          refine lv_iload hx hb dX1_alter_43 (lv_at hl 4 rfl) ?_
          refine lv_iconst (v := 2) hx hb dX1_alter_45 (by decide) ?_
          refine lv_icmp_ne (tgt := 56) hx hb dX1_alter_46 (by decide) (fun c46 => ?_) (fun c46 => ?_)
          · have hf := dz_f c46 hf
            refine lv_iload hx hb dX1_alter_56 (lv_at hl 4 rfl) ?_
            refine lv_iconst (v := 1) hx hb dX1_alter_58 (by decide) ?_
            refine lv_icmp_ne (tgt := 80) hx hb dX1_alter_59 (by decide) (fun c59 => ?_) (fun c59 => ?_)
            · have hf := dz_f c59 hf
              refine lv_iload_n hx hb dX1_alter_80 rfl (lv_at hl 2 rfl) ?_
              refine lv_if_eq (tgt := 91) hx hb dX1_alter_81 (by decide) (fun c81 => ?_) (fun c81 => ?_)
              · have hf := dz_t c81 hf
                refine lv_aload_n hx hb dX1_alter_91 rfl (lv_at hl 0 rfl) ?_
                refine va_get (C := RX1) (T := TX1) (N := 35) (fs := mwF ad s2) (v := .ref (ad 14)) hx hb hts in_X1 hown hK hP 0 rfl hci 14 (by decide) (hts _ q1685) (fun _ hq => hq) rfl dX1_alter_92 ?_
                refine lv_astore (lv' := [(6, .ref (ad 14)), (0, .ref h), (1, .int a0), (2, .int a1), (3, .int a2), (4, .int a3), (5, .int a4)]) hx hb dX1_alter_95 hl (by decide) rfl (fun ls hl => ?_)
                refine lv_aload hx hb dX1_alter_97 (lv_at hl 0 rfl) ?_
                refine lv_bipush (v := 9) hx hb dX1_alter_99 (by decide) ?_
                refine lv_iload_n hx hb dX1_alter_101 rfl (lv_at hl 2 rfl) ?_
                refine lv_imul hx hb dX1_alter_102 ?_
                refine lv_iload_n hx hb dX1_alter_103 rfl (lv_at hl 4 rfl) ?_
                refine lv_iadd hx hb dX1_alter_104 ?_
                refine lv_topi (fun x32 e_x32 => ?_)
                have hf := dz_ls e_x32 hf
                obtain ⟨g33, hf⟩ := dz_go hf
                refine va_iald hx hb hK hP 12 0 rfl rfl g33 dX1_alter_105 ?_
                refine lv_topi (fun x34 e_x34 => ?_)
                have hf := dz_ls e_x34 hf
                refine lv_istore (lv' := [(7, .int x34), (6, .ref (ad 14)), (0, .ref h), (1, .int a0), (2, .int a1), (3, .int a2), (4, .int a3), (5, .int a4)]) hx hb dX1_alter_106 hl (by decide) rfl (fun ls hl => ?_)
                refine lv_aload hx hb dX1_alter_108 (lv_at hl 1 rfl) ?_
                refine lv_bipush (v := 9) hx hb dX1_alter_110 (by decide) ?_
                refine lv_iload_n hx hb dX1_alter_112 rfl (lv_at hl 3 rfl) ?_
                refine lv_imul hx hb dX1_alter_113 ?_
                refine lv_iload_n hx hb dX1_alter_114 rfl (lv_at hl 5 rfl) ?_
                refine lv_iadd hx hb dX1_alter_115 ?_
                refine lv_iload hx hb dX1_alter_116 (lv_at hl 7 rfl) ?_
                obtain ⟨g35, hf⟩ := dz_go hf
                refine va_iast hx hb hK hP hD hS 12 0 rfl rfl g35 dX1_alter_118 (fun H locs hP1 _ hS => ?_)
                obtain ⟨s36, e_s36, hf⟩ := dz_lo hf
                have hP : va_P D cl (mw ci h ad cA s36) H := by rw [e_s36]; exact hP1
                clear hP1; replace hD := mw_D s36 hD
                refine lv_iload hx hb dX1_alter_119 (lv_at hl 0 rfl) ?_
                exact W.iret (v := x34) hx hb hr (fun t ht hW => ⟨⟨x34, s36, rfl, Option.some.inj hf, by rw [ht]; exact hP, va_K.moved hW.alike hK, hD⟩, hS.F ht⟩) hS.2.2 dX1_alter_121
              · have hf := dz_f c81 hf
                refine lv_aload_n hx hb dX1_alter_84 rfl (lv_at hl 0 rfl) ?_
                refine va_get (C := RX1) (T := TX1) (N := 35) (fs := mwF ad s2) (v := .ref (ad 17)) hx hb hts in_X1 hown hK hP 0 rfl hci 17 (by decide) (hts _ q1688) (fun _ hq => hq) rfl dX1_alter_85 ?_
                refine lv_goto (tgt := 95) hx hb dX1_alter_88 (by decide) ?_
                refine lv_astore (lv' := [(6, .ref (ad 17)), (0, .ref h), (1, .int a0), (2, .int a1), (3, .int a2), (4, .int a3), (5, .int a4)]) hx hb dX1_alter_95 hl (by decide) rfl (fun ls hl => ?_)
                refine lv_aload hx hb dX1_alter_97 (lv_at hl 0 rfl) ?_
                refine lv_bipush (v := 9) hx hb dX1_alter_99 (by decide) ?_
                refine lv_iload_n hx hb dX1_alter_101 rfl (lv_at hl 2 rfl) ?_
                refine lv_imul hx hb dX1_alter_102 ?_
                refine lv_iload_n hx hb dX1_alter_103 rfl (lv_at hl 4 rfl) ?_
                refine lv_iadd hx hb dX1_alter_104 ?_
                refine lv_topi (fun x37 e_x37 => ?_)
                have hf := dz_ls e_x37 hf
                obtain ⟨g38, hf⟩ := dz_go hf
                refine va_iald hx hb hK hP 15 0 rfl rfl g38 dX1_alter_105 ?_
                refine lv_topi (fun x39 e_x39 => ?_)
                have hf := dz_ls e_x39 hf
                refine lv_istore (lv' := [(7, .int x39), (6, .ref (ad 17)), (0, .ref h), (1, .int a0), (2, .int a1), (3, .int a2), (4, .int a3), (5, .int a4)]) hx hb dX1_alter_106 hl (by decide) rfl (fun ls hl => ?_)
                refine lv_aload hx hb dX1_alter_108 (lv_at hl 1 rfl) ?_
                refine lv_bipush (v := 9) hx hb dX1_alter_110 (by decide) ?_
                refine lv_iload_n hx hb dX1_alter_112 rfl (lv_at hl 3 rfl) ?_
                refine lv_imul hx hb dX1_alter_113 ?_
                refine lv_iload_n hx hb dX1_alter_114 rfl (lv_at hl 5 rfl) ?_
                refine lv_iadd hx hb dX1_alter_115 ?_
                refine lv_iload hx hb dX1_alter_116 (lv_at hl 7 rfl) ?_
                obtain ⟨g40, hf⟩ := dz_go hf
                refine va_iast hx hb hK hP hD hS 15 0 rfl rfl g40 dX1_alter_118 (fun H locs hP1 _ hS => ?_)
                obtain ⟨s41, e_s41, hf⟩ := dz_lo hf
                have hP : va_P D cl (mw ci h ad cA s41) H := by rw [e_s41]; exact hP1
                clear hP1; replace hD := mw_D s41 hD
                refine lv_iload hx hb dX1_alter_119 (lv_at hl 0 rfl) ?_
                exact W.iret (v := x39) hx hb hr (fun t ht hW => ⟨⟨x39, s41, rfl, Option.some.inj hf, by rw [ht]; exact hP, va_K.moved hW.alike hK, hD⟩, hS.F ht⟩) hS.2.2 dX1_alter_121
            · have hf := dz_t c59 hf
              refine lv_iload_n hx hb dX1_alter_62 rfl (lv_at hl 2 rfl) ?_
              refine lv_if_eq (tgt := 73) hx hb dX1_alter_63 (by decide) (fun c63 => ?_) (fun c63 => ?_)
              · have hf := dz_t c63 hf
                refine lv_aload_n hx hb dX1_alter_73 rfl (lv_at hl 0 rfl) ?_
                refine va_get (C := RX1) (T := TX1) (N := 35) (fs := mwF ad s2) (v := .ref (ad 15)) hx hb hts in_X1 hown hK hP 0 rfl hci 15 (by decide) (hts _ q1686) (fun _ hq => hq) rfl dX1_alter_74 ?_
                refine lv_goto (tgt := 95) hx hb dX1_alter_77 (by decide) ?_
                refine lv_astore (lv' := [(6, .ref (ad 15)), (0, .ref h), (1, .int a0), (2, .int a1), (3, .int a2), (4, .int a3), (5, .int a4)]) hx hb dX1_alter_95 hl (by decide) rfl (fun ls hl => ?_)
                refine lv_aload hx hb dX1_alter_97 (lv_at hl 0 rfl) ?_
                refine lv_bipush (v := 9) hx hb dX1_alter_99 (by decide) ?_
                refine lv_iload_n hx hb dX1_alter_101 rfl (lv_at hl 2 rfl) ?_
                refine lv_imul hx hb dX1_alter_102 ?_
                refine lv_iload_n hx hb dX1_alter_103 rfl (lv_at hl 4 rfl) ?_
                refine lv_iadd hx hb dX1_alter_104 ?_
                refine lv_topi (fun x42 e_x42 => ?_)
                have hf := dz_ls e_x42 hf
                obtain ⟨g43, hf⟩ := dz_go hf
                refine va_iald hx hb hK hP 13 0 rfl rfl g43 dX1_alter_105 ?_
                refine lv_topi (fun x44 e_x44 => ?_)
                have hf := dz_ls e_x44 hf
                refine lv_istore (lv' := [(7, .int x44), (6, .ref (ad 15)), (0, .ref h), (1, .int a0), (2, .int a1), (3, .int a2), (4, .int a3), (5, .int a4)]) hx hb dX1_alter_106 hl (by decide) rfl (fun ls hl => ?_)
                refine lv_aload hx hb dX1_alter_108 (lv_at hl 1 rfl) ?_
                refine lv_bipush (v := 9) hx hb dX1_alter_110 (by decide) ?_
                refine lv_iload_n hx hb dX1_alter_112 rfl (lv_at hl 3 rfl) ?_
                refine lv_imul hx hb dX1_alter_113 ?_
                refine lv_iload_n hx hb dX1_alter_114 rfl (lv_at hl 5 rfl) ?_
                refine lv_iadd hx hb dX1_alter_115 ?_
                refine lv_iload hx hb dX1_alter_116 (lv_at hl 7 rfl) ?_
                obtain ⟨g45, hf⟩ := dz_go hf
                refine va_iast hx hb hK hP hD hS 13 0 rfl rfl g45 dX1_alter_118 (fun H locs hP1 _ hS => ?_)
                obtain ⟨s46, e_s46, hf⟩ := dz_lo hf
                have hP : va_P D cl (mw ci h ad cA s46) H := by rw [e_s46]; exact hP1
                clear hP1; replace hD := mw_D s46 hD
                refine lv_iload hx hb dX1_alter_119 (lv_at hl 0 rfl) ?_
                exact W.iret (v := x44) hx hb hr (fun t ht hW => ⟨⟨x44, s46, rfl, Option.some.inj hf, by rw [ht]; exact hP, va_K.moved hW.alike hK, hD⟩, hS.F ht⟩) hS.2.2 dX1_alter_121
              · have hf := dz_f c63 hf
                refine lv_aload_n hx hb dX1_alter_66 rfl (lv_at hl 0 rfl) ?_
                refine va_get (C := RX1) (T := TX1) (N := 35) (fs := mwF ad s2) (v := .ref (ad 18)) hx hb hts in_X1 hown hK hP 0 rfl hci 18 (by decide) (hts _ q1689) (fun _ hq => hq) rfl dX1_alter_67 ?_
                refine lv_goto (tgt := 95) hx hb dX1_alter_70 (by decide) ?_
                refine lv_astore (lv' := [(6, .ref (ad 18)), (0, .ref h), (1, .int a0), (2, .int a1), (3, .int a2), (4, .int a3), (5, .int a4)]) hx hb dX1_alter_95 hl (by decide) rfl (fun ls hl => ?_)
                refine lv_aload hx hb dX1_alter_97 (lv_at hl 0 rfl) ?_
                refine lv_bipush (v := 9) hx hb dX1_alter_99 (by decide) ?_
                refine lv_iload_n hx hb dX1_alter_101 rfl (lv_at hl 2 rfl) ?_
                refine lv_imul hx hb dX1_alter_102 ?_
                refine lv_iload_n hx hb dX1_alter_103 rfl (lv_at hl 4 rfl) ?_
                refine lv_iadd hx hb dX1_alter_104 ?_
                refine lv_topi (fun x47 e_x47 => ?_)
                have hf := dz_ls e_x47 hf
                obtain ⟨g48, hf⟩ := dz_go hf
                refine va_iald hx hb hK hP 16 0 rfl rfl g48 dX1_alter_105 ?_
                refine lv_topi (fun x49 e_x49 => ?_)
                have hf := dz_ls e_x49 hf
                refine lv_istore (lv' := [(7, .int x49), (6, .ref (ad 18)), (0, .ref h), (1, .int a0), (2, .int a1), (3, .int a2), (4, .int a3), (5, .int a4)]) hx hb dX1_alter_106 hl (by decide) rfl (fun ls hl => ?_)
                refine lv_aload hx hb dX1_alter_108 (lv_at hl 1 rfl) ?_
                refine lv_bipush (v := 9) hx hb dX1_alter_110 (by decide) ?_
                refine lv_iload_n hx hb dX1_alter_112 rfl (lv_at hl 3 rfl) ?_
                refine lv_imul hx hb dX1_alter_113 ?_
                refine lv_iload_n hx hb dX1_alter_114 rfl (lv_at hl 5 rfl) ?_
                refine lv_iadd hx hb dX1_alter_115 ?_
                refine lv_iload hx hb dX1_alter_116 (lv_at hl 7 rfl) ?_
                obtain ⟨g50, hf⟩ := dz_go hf
                refine va_iast hx hb hK hP hD hS 16 0 rfl rfl g50 dX1_alter_118 (fun H locs hP1 _ hS => ?_)
                obtain ⟨s51, e_s51, hf⟩ := dz_lo hf
                have hP : va_P D cl (mw ci h ad cA s51) H := by rw [e_s51]; exact hP1
                clear hP1; replace hD := mw_D s51 hD
                refine lv_iload hx hb dX1_alter_119 (lv_at hl 0 rfl) ?_
                exact W.iret (v := x49) hx hb hr (fun t ht hW => ⟨⟨x49, s51, rfl, Option.some.inj hf, by rw [ht]; exact hP, va_K.moved hW.alike hK, hD⟩, hS.F ht⟩) hS.2.2 dX1_alter_121
          · have hf := dz_t c46 hf
            refine lv_aload_n hx hb dX1_alter_49 rfl (lv_at hl 0 rfl) ?_
            refine va_get (C := RX1) (T := TX1) (N := 35) (fs := mwF ad s2) (v := .ref (ad 16)) hx hb hts in_X1 hown hK hP 0 rfl hci 16 (by decide) (hts _ q1687) (fun _ hq => hq) rfl dX1_alter_50 ?_
            refine lv_goto (tgt := 95) hx hb dX1_alter_53 (by decide) ?_
            refine lv_astore (lv' := [(6, .ref (ad 16)), (0, .ref h), (1, .int a0), (2, .int a1), (3, .int a2), (4, .int a3), (5, .int a4)]) hx hb dX1_alter_95 hl (by decide) rfl (fun ls hl => ?_)
            refine lv_aload hx hb dX1_alter_97 (lv_at hl 0 rfl) ?_
            refine lv_bipush (v := 9) hx hb dX1_alter_99 (by decide) ?_
            refine lv_iload_n hx hb dX1_alter_101 rfl (lv_at hl 2 rfl) ?_
            refine lv_imul hx hb dX1_alter_102 ?_
            refine lv_iload_n hx hb dX1_alter_103 rfl (lv_at hl 4 rfl) ?_
            refine lv_iadd hx hb dX1_alter_104 ?_
            refine lv_topi (fun x52 e_x52 => ?_)
            have hf := dz_ls e_x52 hf
            obtain ⟨g53, hf⟩ := dz_go hf
            refine va_iald hx hb hK hP 14 0 rfl rfl g53 dX1_alter_105 ?_
            refine lv_topi (fun x54 e_x54 => ?_)
            have hf := dz_ls e_x54 hf
            refine lv_istore (lv' := [(7, .int x54), (6, .ref (ad 16)), (0, .ref h), (1, .int a0), (2, .int a1), (3, .int a2), (4, .int a3), (5, .int a4)]) hx hb dX1_alter_106 hl (by decide) rfl (fun ls hl => ?_)
            refine lv_aload hx hb dX1_alter_108 (lv_at hl 1 rfl) ?_
            refine lv_bipush (v := 9) hx hb dX1_alter_110 (by decide) ?_
            refine lv_iload_n hx hb dX1_alter_112 rfl (lv_at hl 3 rfl) ?_
            refine lv_imul hx hb dX1_alter_113 ?_
            refine lv_iload_n hx hb dX1_alter_114 rfl (lv_at hl 5 rfl) ?_
            refine lv_iadd hx hb dX1_alter_115 ?_
            refine lv_iload hx hb dX1_alter_116 (lv_at hl 7 rfl) ?_
            obtain ⟨g55, hf⟩ := dz_go hf
            refine va_iast hx hb hK hP hD hS 14 0 rfl rfl g55 dX1_alter_118 (fun H locs hP1 _ hS => ?_)
            obtain ⟨s56, e_s56, hf⟩ := dz_lo hf
            have hP : va_P D cl (mw ci h ad cA s56) H := by rw [e_s56]; exact hP1
            clear hP1; replace hD := mw_D s56 hD
            refine lv_iload hx hb dX1_alter_119 (lv_at hl 0 rfl) ?_
            exact W.iret (v := x54) hx hb hr (fun t ht hW => ⟨⟨x54, s56, rfl, Option.some.inj hf, by rw [ht]; exact hP, va_K.moved hW.alike hK, hD⟩, hS.F ht⟩) hS.2.2 dX1_alter_121
        · have hf := dz_t c38 hf
          refine lv_iconst (v := (-1)) hx hb dX1_alter_41 (by decide) ?_
          exact W.iret (v := (-1)) hx hb hr (fun t ht hW => ⟨⟨(-1), s2, rfl, Option.some.inj hf, by rw [ht]; exact hP, va_K.moved hW.alike hK, hD⟩, hS.F ht⟩) hS.2.2 dX1_alter_42

noncomputable def lfX1_cut (K : Nat) : Nat → (Int32 → Int32 → Int32 → Int32 → pM → Option (Int32 × pM)) × (Int32 → Int32 → Int32 → Int32 → pM → Option (Int32 × pM)) := Nat.rec (motive := fun _ => (Int32 → Int32 → Int32 → Int32 → pM → Option (Int32 × pM)) × (Int32 → Int32 → Int32 → Int32 → pM → Option (Int32 × pM))) ((fun _ _ _ _ _ => none), (fun _ _ _ _ _ => none)) (fun _ G => ((fun v1 v2 v4 v5 σ => if (((9 * v1) + v4) - 1) ≤ v5 then (if v2 = (0 : Int32) then (if ¬ (v1 < 0 ∨ 116 ≤ Int32.toNatClampNeg v1) then (dz_l (σ.2.2.1 12 (Int32.toNatClampNeg v1)) fun x2 => dz_l (x2 - 1) fun x3 => if ¬ (v1 < 0 ∨ 116 ≤ Int32.toNatClampNeg v1) then (dz_l (mI σ 12 (Int32.toNatClampNeg v1) x3) fun s5 => some (v4 - 1, s5)) else none) else none) else (if ¬ (v1 < 0 ∨ 116 ≤ Int32.toNatClampNeg v1) then (dz_l (σ.2.2.1 13 (Int32.toNatClampNeg v1)) fun x7 => dz_l (x7 - 1) fun x8 => if ¬ (v1 < 0 ∨ 116 ≤ Int32.toNatClampNeg v1) then (dz_l (mI σ 13 (Int32.toNatClampNeg v1) x8) fun s10 => some (v4 - 1, s10)) else none) else none)) else (if v2 = (0 : Int32) then (dz_l (v5 + 1) fun x11 => if ¬ (x11 < 0 ∨ 1044 ≤ Int32.toNatClampNeg x11) then (dz_l (σ.2.2.1 14 (Int32.toNatClampNeg x11)) fun x13 => if ¬ (v5 < 0 ∨ 1044 ≤ Int32.toNatClampNeg v5) then (dz_l (mI σ 14 (Int32.toNatClampNeg v5) x13) fun s15 => dz_l (v5 + 1) fun x16 => if ¬ (x16 < 0 ∨ 1044 ≤ Int32.toNatClampNeg x16) then (dz_l (s15.2.2.1 15 (Int32.toNatClampNeg x16)) fun x18 => if ¬ (v5 < 0 ∨ 1044 ≤ Int32.toNatClampNeg v5) then (dz_l (mI s15 15 (Int32.toNatClampNeg v5) x18) fun s20 => dz_l (v5 + 1) fun x21 => if ¬ (x21 < 0 ∨ 1044 ≤ Int32.toNatClampNeg x21) then (dz_l (s20.2.2.1 16 (Int32.toNatClampNeg x21)) fun x23 => if ¬ (v5 < 0 ∨ 1044 ≤ Int32.toNatClampNeg v5) then (dz_l (mI s20 16 (Int32.toNatClampNeg v5) x23) fun s25 => G.2 v1 v2 v4 v5 s25) else none) else none) else none) else none) else none) else none) else (dz_l (v5 + 1) fun x26 => if ¬ (x26 < 0 ∨ 1044 ≤ Int32.toNatClampNeg x26) then (dz_l (σ.2.2.1 17 (Int32.toNatClampNeg x26)) fun x28 => if ¬ (v5 < 0 ∨ 1044 ≤ Int32.toNatClampNeg v5) then (dz_l (mI σ 17 (Int32.toNatClampNeg v5) x28) fun s30 => dz_l (v5 + 1) fun x31 => if ¬ (x31 < 0 ∨ 1044 ≤ Int32.toNatClampNeg x31) then (dz_l (s30.2.2.1 18 (Int32.toNatClampNeg x31)) fun x33 => if ¬ (v5 < 0 ∨ 1044 ≤ Int32.toNatClampNeg v5) then (dz_l (mI s30 18 (Int32.toNatClampNeg v5) x33) fun s35 => G.2 v1 v2 v4 v5 s35) else none) else none) else none) else none))), (fun v1 v2 v4 v5 σ => dz_l (v5 + 1) fun x1 => G.1 v1 v2 v4 x1 σ)))
noncomputable def fnX1_cut (K : Nat) (a0 : Int32) (a1 : Int32) (a2 : Int32) (σ : pM) : Option (Int32 × pM) := dz_c (fnX1_isRow K a0 a1 a2 σ) fun x1 s2 => if x1 = (0 : Int32) then (some ((-1), s2)) else (if a1 = (0 : Int32) then (if ¬ (a0 < 0 ∨ 116 ≤ Int32.toNatClampNeg a0) then (dz_l (s2.2.2.1 12 (Int32.toNatClampNeg a0)) fun x4 => dz_l ((9 * a0) + a2) fun x5 => (lfX1_cut K K).1 a0 a1 x4 x5 s2) else none) else (if ¬ (a0 < 0 ∨ 116 ≤ Int32.toNatClampNeg a0) then (dz_l (s2.2.2.1 13 (Int32.toNatClampNeg a0)) fun x7 => dz_l ((9 * a0) + a2) fun x8 => (lfX1_cut K K).1 a0 a1 x7 x8 s2) else none))
set_option maxHeartbeats 4000000 in
set_option maxRecDepth 100000 in
theorem wlX1_cut {p : Program} {l : Launch} {e : Env} {s : State} {m : MethodId} {below : List Frame} {meth : Method} {c : Code} {D : va_G} {cl : List vw_C} {ci : Nat} (hci : cl[ci]? = some (RX1, TX1, 35)) {h : Nat} {ad : Nat → Nat} {cA : Nat → ClassId} {A : Nat → Prop} (hA : ∀ q : Nat, s.heap.size ≤ q → A q) (hK : va_K D cl (mtys cA) s) (K : Nat) (res : (Int32 × pM)) (a0 : Int32) (a1 : Int32) (a2 : Int32) (hx : p.tables.exec = Jvm.exec) (hb : c.code = cX1_cut) (hr : meth.sig.returnType = some .int) (hlocks : meth.locks = false) (hml : c.maxLocals = 6) (hown : s.vm.findClass RX1 = some m.cls) (hts : ∀ w ∈ lw_all, w.before ([.ref h, .int a0, .int a1, .int a2] : List Value).toArray s = true) : ∀ k : Nat, (∀ (v1 : Int32) (v2 : Int32) (v4 : Int32) (v5 : Int32) (σ : pM) (H : Heap) (locs : List Loc), va_P D cl (mw ci h ad cA σ) H → va_D A (mw ci h ad cA σ) → va_S A s.heap H locs → ∀ (ls : Array Slot), lv_has ls 6 [(0, .ref h), (1, .int v1), (2, .int v2), (4, .int v4), (5, .int v5)] → (lfX1_cut K k).1 v1 v2 v4 v5 σ = some res → W p l e (headSpec (ws_ yX1_cut cX1_cut 6 (some .int)) ({ frames := 3, cells := 0, slots := 0, locals := 69 })).room s m ([.ref h, .int a0, .int a1, .int a2] : List Value).toArray below meth c H locs 0 0 (MQ below (mQi D cl ci h ad cA A res) ([.ref h, .int a0, .int a1, .int a2] : List Value).toArray s 0 0 A) (F0 m 41 ls [])) ∧ (∀ (v1 : Int32) (v2 : Int32) (v4 : Int32) (v5 : Int32) (σ : pM) (H : Heap) (locs : List Loc), va_P D cl (mw ci h ad cA σ) H → va_D A (mw ci h ad cA σ) → va_S A s.heap H locs → ∀ (ls : Array Slot), lv_has ls 6 [(0, .ref h), (1, .int v1), (2, .int v2), (4, .int v4), (5, .int v5)] → (lfX1_cut K k).2 v1 v2 v4 v5 σ = some res → W p l e (headSpec (ws_ yX1_cut cX1_cut 6 (some .int)) ({ frames := 3, cells := 0, slots := 0, locals := 69 })).room s m ([.ref h, .int a0, .int a1, .int a2] : List Value).toArray below meth c H locs 0 0 (MQ below (mQi D cl ci h ad cA A res) ([.ref h, .int a0, .int a1, .int a2] : List Value).toArray s 0 0 A) (F0 m 142 ls [])) := by
  intro k
  induction k with
  | zero =>
    exact ⟨fun _ _ _ _ _ _ _ _ _ _ _ _ hf => (by cases hf), fun _ _ _ _ _ _ _ _ _ _ _ _ hf => (by cases hf)⟩
  | succ k ih =>
    refine ⟨?_, ?_⟩
    · intro v1 v2 v4 v5 σ H locs hP hD hS ls hl hf
      have hf : (if (((9 * v1) + v4) - 1) ≤ v5 then (if v2 = (0 : Int32) then (if ¬ (v1 < 0 ∨ 116 ≤ Int32.toNatClampNeg v1) then (dz_l (σ.2.2.1 12 (Int32.toNatClampNeg v1)) fun x2 => dz_l (x2 - 1) fun x3 => if ¬ (v1 < 0 ∨ 116 ≤ Int32.toNatClampNeg v1) then (dz_l (mI σ 12 (Int32.toNatClampNeg v1) x3) fun s5 => some (v4 - 1, s5)) else none) else none) else (if ¬ (v1 < 0 ∨ 116 ≤ Int32.toNatClampNeg v1) then (dz_l (σ.2.2.1 13 (Int32.toNatClampNeg v1)) fun x7 => dz_l (x7 - 1) fun x8 => if ¬ (v1 < 0 ∨ 116 ≤ Int32.toNatClampNeg v1) then (dz_l (mI σ 13 (Int32.toNatClampNeg v1) x8) fun s10 => some (v4 - 1, s10)) else none) else none)) else (if v2 = (0 : Int32) then (dz_l (v5 + 1) fun x11 => if ¬ (x11 < 0 ∨ 1044 ≤ Int32.toNatClampNeg x11) then (dz_l (σ.2.2.1 14 (Int32.toNatClampNeg x11)) fun x13 => if ¬ (v5 < 0 ∨ 1044 ≤ Int32.toNatClampNeg v5) then (dz_l (mI σ 14 (Int32.toNatClampNeg v5) x13) fun s15 => dz_l (v5 + 1) fun x16 => if ¬ (x16 < 0 ∨ 1044 ≤ Int32.toNatClampNeg x16) then (dz_l (s15.2.2.1 15 (Int32.toNatClampNeg x16)) fun x18 => if ¬ (v5 < 0 ∨ 1044 ≤ Int32.toNatClampNeg v5) then (dz_l (mI s15 15 (Int32.toNatClampNeg v5) x18) fun s20 => dz_l (v5 + 1) fun x21 => if ¬ (x21 < 0 ∨ 1044 ≤ Int32.toNatClampNeg x21) then (dz_l (s20.2.2.1 16 (Int32.toNatClampNeg x21)) fun x23 => if ¬ (v5 < 0 ∨ 1044 ≤ Int32.toNatClampNeg v5) then (dz_l (mI s20 16 (Int32.toNatClampNeg v5) x23) fun s25 => (lfX1_cut K k).2 v1 v2 v4 v5 s25) else none) else none) else none) else none) else none) else none) else (dz_l (v5 + 1) fun x26 => if ¬ (x26 < 0 ∨ 1044 ≤ Int32.toNatClampNeg x26) then (dz_l (σ.2.2.1 17 (Int32.toNatClampNeg x26)) fun x28 => if ¬ (v5 < 0 ∨ 1044 ≤ Int32.toNatClampNeg v5) then (dz_l (mI σ 17 (Int32.toNatClampNeg v5) x28) fun s30 => dz_l (v5 + 1) fun x31 => if ¬ (x31 < 0 ∨ 1044 ≤ Int32.toNatClampNeg x31) then (dz_l (s30.2.2.1 18 (Int32.toNatClampNeg x31)) fun x33 => if ¬ (v5 < 0 ∨ 1044 ≤ Int32.toNatClampNeg v5) then (dz_l (mI s30 18 (Int32.toNatClampNeg v5) x33) fun s35 => (lfX1_cut K k).2 v1 v2 v4 v5 s35) else none) else none) else none) else none)) : Option (Int32 × pM)) = some res := hf
      refine lv_iload hx hb dX1_cut_41 (lv_at hl 4 rfl) ?_
      refine lv_bipush (v := 9) hx hb dX1_cut_43 (by decide) ?_
      refine lv_iload_n hx hb dX1_cut_45 rfl (lv_at hl 1 rfl) ?_
      refine lv_imul hx hb dX1_cut_46 ?_
      refine lv_iload hx hb dX1_cut_47 (lv_at hl 3 rfl) ?_
      refine lv_iadd hx hb dX1_cut_49 ?_
      refine lv_iconst (v := 1) hx hb dX1_cut_50 (by decide) ?_
      refine lv_isub hx hb dX1_cut_51 ?_
      refine lv_icmp_ge (tgt := 148) hx hb dX1_cut_52 (by decide) (fun c52 => ?_) (fun c52 => ?_)
      · have hf := dz_t c52 hf
        refine lv_iload_n hx hb dX1_cut_148 rfl (lv_at hl 2 rfl) ?_
        refine lv_if_eq (tgt := 165) hx hb dX1_cut_149 (by decide) (fun c149 => ?_) (fun c149 => ?_)
        · have hf := dz_t c149 hf
          refine lv_aload_n hx hb dX1_cut_165 rfl (lv_at hl 0 rfl) ?_
          refine va_get (C := RX1) (T := TX1) (N := 35) (fs := mwF ad σ) (v := .ref (ad 12)) hx hb hts in_X1 hown hK hP 0 rfl hci 12 (by decide) (hts _ q1683) (fun _ hq => hq) rfl dX1_cut_166 ?_
          refine lv_iload_n hx hb dX1_cut_169 rfl (lv_at hl 1 rfl) ?_
          refine lv_dup2_11 hx hb dX1_cut_170 rfl rfl ?_
          obtain ⟨g1, hf⟩ := dz_go hf
          refine va_iald hx hb hK hP 10 0 rfl rfl g1 dX1_cut_171 ?_
          refine lv_topi (fun x2 e_x2 => ?_)
          have hf := dz_ls e_x2 hf
          refine lv_iconst (v := 1) hx hb dX1_cut_172 (by decide) ?_
          refine lv_isub hx hb dX1_cut_173 ?_
          refine lv_topi (fun x3 e_x3 => ?_)
          have hf := dz_ls e_x3 hf
          obtain ⟨g4, hf⟩ := dz_go hf
          refine va_iast hx hb hK hP hD hS 10 0 rfl rfl g4 dX1_cut_174 (fun H locs hP1 _ hS => ?_)
          obtain ⟨s5, e_s5, hf⟩ := dz_lo hf
          have hP : va_P D cl (mw ci h ad cA s5) H := by rw [e_s5]; exact hP1
          clear hP1; replace hD := mw_D s5 hD
          refine lv_iload hx hb dX1_cut_175 (lv_at hl 3 rfl) ?_
          refine lv_iconst (v := 1) hx hb dX1_cut_177 (by decide) ?_
          refine lv_isub hx hb dX1_cut_178 ?_
          exact W.iret (v := v4 - 1) hx hb hr (fun t ht hW => ⟨⟨v4 - 1, s5, rfl, Option.some.inj hf, by rw [ht]; exact hP, va_K.moved hW.alike hK, hD⟩, hS.F ht⟩) hS.2.2 dX1_cut_179
        · have hf := dz_f c149 hf
          refine lv_aload_n hx hb dX1_cut_152 rfl (lv_at hl 0 rfl) ?_
          refine va_get (C := RX1) (T := TX1) (N := 35) (fs := mwF ad σ) (v := .ref (ad 13)) hx hb hts in_X1 hown hK hP 0 rfl hci 13 (by decide) (hts _ q1684) (fun _ hq => hq) rfl dX1_cut_153 ?_
          refine lv_iload_n hx hb dX1_cut_156 rfl (lv_at hl 1 rfl) ?_
          refine lv_dup2_11 hx hb dX1_cut_157 rfl rfl ?_
          obtain ⟨g6, hf⟩ := dz_go hf
          refine va_iald hx hb hK hP 11 0 rfl rfl g6 dX1_cut_158 ?_
          refine lv_topi (fun x7 e_x7 => ?_)
          have hf := dz_ls e_x7 hf
          refine lv_iconst (v := 1) hx hb dX1_cut_159 (by decide) ?_
          refine lv_isub hx hb dX1_cut_160 ?_
          refine lv_topi (fun x8 e_x8 => ?_)
          have hf := dz_ls e_x8 hf
          obtain ⟨g9, hf⟩ := dz_go hf
          refine va_iast hx hb hK hP hD hS 11 0 rfl rfl g9 dX1_cut_161 (fun H locs hP1 _ hS => ?_)
          obtain ⟨s10, e_s10, hf⟩ := dz_lo hf
          have hP : va_P D cl (mw ci h ad cA s10) H := by rw [e_s10]; exact hP1
          clear hP1; replace hD := mw_D s10 hD
          refine lv_goto (tgt := 175) hx hb dX1_cut_162 (by decide) ?_
          refine lv_iload hx hb dX1_cut_175 (lv_at hl 3 rfl) ?_
          refine lv_iconst (v := 1) hx hb dX1_cut_177 (by decide) ?_
          refine lv_isub hx hb dX1_cut_178 ?_
          exact W.iret (v := v4 - 1) hx hb hr (fun t ht hW => ⟨⟨v4 - 1, s10, rfl, Option.some.inj hf, by rw [ht]; exact hP, va_K.moved hW.alike hK, hD⟩, hS.F ht⟩) hS.2.2 dX1_cut_179
      · have hf := dz_f c52 hf
        refine lv_iload_n hx hb dX1_cut_55 rfl (lv_at hl 2 rfl) ?_
        refine lv_if_eq (tgt := 94) hx hb dX1_cut_56 (by decide) (fun c56 => ?_) (fun c56 => ?_)
        · have hf := dz_t c56 hf
          refine lv_aload_n hx hb dX1_cut_94 rfl (lv_at hl 0 rfl) ?_
          refine va_get (C := RX1) (T := TX1) (N := 35) (fs := mwF ad σ) (v := .ref (ad 14)) hx hb hts in_X1 hown hK hP 0 rfl hci 14 (by decide) (hts _ q1685) (fun _ hq => hq) rfl dX1_cut_95 ?_
          refine lv_iload hx hb dX1_cut_98 (lv_at hl 4 rfl) ?_
          refine lv_aload_n hx hb dX1_cut_100 rfl (lv_at hl 0 rfl) ?_
          refine va_get (C := RX1) (T := TX1) (N := 35) (fs := mwF ad σ) (v := .ref (ad 14)) hx hb hts in_X1 hown hK hP 0 rfl hci 14 (by decide) (hts _ q1685) (fun _ hq => hq) rfl dX1_cut_101 ?_
          refine lv_iload hx hb dX1_cut_104 (lv_at hl 4 rfl) ?_
          refine lv_iconst (v := 1) hx hb dX1_cut_106 (by decide) ?_
          refine lv_iadd hx hb dX1_cut_107 ?_
          refine lv_topi (fun x11 e_x11 => ?_)
          have hf := dz_ls e_x11 hf
          obtain ⟨g12, hf⟩ := dz_go hf
          refine va_iald hx hb hK hP 12 0 rfl rfl g12 dX1_cut_108 ?_
          refine lv_topi (fun x13 e_x13 => ?_)
          have hf := dz_ls e_x13 hf
          obtain ⟨g14, hf⟩ := dz_go hf
          refine va_iast hx hb hK hP hD hS 12 0 rfl rfl g14 dX1_cut_109 (fun H locs hP1 _ hS => ?_)
          obtain ⟨s15, e_s15, hf⟩ := dz_lo hf
          have hP : va_P D cl (mw ci h ad cA s15) H := by rw [e_s15]; exact hP1
          clear hP1; replace hD := mw_D s15 hD
          refine lv_aload_n hx hb dX1_cut_110 rfl (lv_at hl 0 rfl) ?_
          refine va_get (C := RX1) (T := TX1) (N := 35) (fs := mwF ad s15) (v := .ref (ad 15)) hx hb hts in_X1 hown hK hP 0 rfl hci 15 (by decide) (hts _ q1686) (fun _ hq => hq) rfl dX1_cut_111 ?_
          refine lv_iload hx hb dX1_cut_114 (lv_at hl 4 rfl) ?_
          refine lv_aload_n hx hb dX1_cut_116 rfl (lv_at hl 0 rfl) ?_
          refine va_get (C := RX1) (T := TX1) (N := 35) (fs := mwF ad s15) (v := .ref (ad 15)) hx hb hts in_X1 hown hK hP 0 rfl hci 15 (by decide) (hts _ q1686) (fun _ hq => hq) rfl dX1_cut_117 ?_
          refine lv_iload hx hb dX1_cut_120 (lv_at hl 4 rfl) ?_
          refine lv_iconst (v := 1) hx hb dX1_cut_122 (by decide) ?_
          refine lv_iadd hx hb dX1_cut_123 ?_
          refine lv_topi (fun x16 e_x16 => ?_)
          have hf := dz_ls e_x16 hf
          obtain ⟨g17, hf⟩ := dz_go hf
          refine va_iald hx hb hK hP 13 0 rfl rfl g17 dX1_cut_124 ?_
          refine lv_topi (fun x18 e_x18 => ?_)
          have hf := dz_ls e_x18 hf
          obtain ⟨g19, hf⟩ := dz_go hf
          refine va_iast hx hb hK hP hD hS 13 0 rfl rfl g19 dX1_cut_125 (fun H locs hP1 _ hS => ?_)
          obtain ⟨s20, e_s20, hf⟩ := dz_lo hf
          have hP : va_P D cl (mw ci h ad cA s20) H := by rw [e_s20]; exact hP1
          clear hP1; replace hD := mw_D s20 hD
          refine lv_aload_n hx hb dX1_cut_126 rfl (lv_at hl 0 rfl) ?_
          refine va_get (C := RX1) (T := TX1) (N := 35) (fs := mwF ad s20) (v := .ref (ad 16)) hx hb hts in_X1 hown hK hP 0 rfl hci 16 (by decide) (hts _ q1687) (fun _ hq => hq) rfl dX1_cut_127 ?_
          refine lv_iload hx hb dX1_cut_130 (lv_at hl 4 rfl) ?_
          refine lv_aload_n hx hb dX1_cut_132 rfl (lv_at hl 0 rfl) ?_
          refine va_get (C := RX1) (T := TX1) (N := 35) (fs := mwF ad s20) (v := .ref (ad 16)) hx hb hts in_X1 hown hK hP 0 rfl hci 16 (by decide) (hts _ q1687) (fun _ hq => hq) rfl dX1_cut_133 ?_
          refine lv_iload hx hb dX1_cut_136 (lv_at hl 4 rfl) ?_
          refine lv_iconst (v := 1) hx hb dX1_cut_138 (by decide) ?_
          refine lv_iadd hx hb dX1_cut_139 ?_
          refine lv_topi (fun x21 e_x21 => ?_)
          have hf := dz_ls e_x21 hf
          obtain ⟨g22, hf⟩ := dz_go hf
          refine va_iald hx hb hK hP 14 0 rfl rfl g22 dX1_cut_140 ?_
          refine lv_topi (fun x23 e_x23 => ?_)
          have hf := dz_ls e_x23 hf
          obtain ⟨g24, hf⟩ := dz_go hf
          refine va_iast hx hb hK hP hD hS 14 0 rfl rfl g24 dX1_cut_141 (fun H locs hP1 _ hS => ?_)
          obtain ⟨s25, e_s25, hf⟩ := dz_lo hf
          have hP : va_P D cl (mw ci h ad cA s25) H := by rw [e_s25]; exact hP1
          clear hP1; replace hD := mw_D s25 hD
          exact ih.2 v1 v2 v4 v5 s25 H locs hP hD hS ls (lv_sub hl [0, 1, 2, 3, 4] rfl) hf
        · have hf := dz_f c56 hf
          refine lv_aload_n hx hb dX1_cut_59 rfl (lv_at hl 0 rfl) ?_
          refine va_get (C := RX1) (T := TX1) (N := 35) (fs := mwF ad σ) (v := .ref (ad 17)) hx hb hts in_X1 hown hK hP 0 rfl hci 17 (by decide) (hts _ q1688) (fun _ hq => hq) rfl dX1_cut_60 ?_
          refine lv_iload hx hb dX1_cut_63 (lv_at hl 4 rfl) ?_
          refine lv_aload_n hx hb dX1_cut_65 rfl (lv_at hl 0 rfl) ?_
          refine va_get (C := RX1) (T := TX1) (N := 35) (fs := mwF ad σ) (v := .ref (ad 17)) hx hb hts in_X1 hown hK hP 0 rfl hci 17 (by decide) (hts _ q1688) (fun _ hq => hq) rfl dX1_cut_66 ?_
          refine lv_iload hx hb dX1_cut_69 (lv_at hl 4 rfl) ?_
          refine lv_iconst (v := 1) hx hb dX1_cut_71 (by decide) ?_
          refine lv_iadd hx hb dX1_cut_72 ?_
          refine lv_topi (fun x26 e_x26 => ?_)
          have hf := dz_ls e_x26 hf
          obtain ⟨g27, hf⟩ := dz_go hf
          refine va_iald hx hb hK hP 15 0 rfl rfl g27 dX1_cut_73 ?_
          refine lv_topi (fun x28 e_x28 => ?_)
          have hf := dz_ls e_x28 hf
          obtain ⟨g29, hf⟩ := dz_go hf
          refine va_iast hx hb hK hP hD hS 15 0 rfl rfl g29 dX1_cut_74 (fun H locs hP1 _ hS => ?_)
          obtain ⟨s30, e_s30, hf⟩ := dz_lo hf
          have hP : va_P D cl (mw ci h ad cA s30) H := by rw [e_s30]; exact hP1
          clear hP1; replace hD := mw_D s30 hD
          refine lv_aload_n hx hb dX1_cut_75 rfl (lv_at hl 0 rfl) ?_
          refine va_get (C := RX1) (T := TX1) (N := 35) (fs := mwF ad s30) (v := .ref (ad 18)) hx hb hts in_X1 hown hK hP 0 rfl hci 18 (by decide) (hts _ q1689) (fun _ hq => hq) rfl dX1_cut_76 ?_
          refine lv_iload hx hb dX1_cut_79 (lv_at hl 4 rfl) ?_
          refine lv_aload_n hx hb dX1_cut_81 rfl (lv_at hl 0 rfl) ?_
          refine va_get (C := RX1) (T := TX1) (N := 35) (fs := mwF ad s30) (v := .ref (ad 18)) hx hb hts in_X1 hown hK hP 0 rfl hci 18 (by decide) (hts _ q1689) (fun _ hq => hq) rfl dX1_cut_82 ?_
          refine lv_iload hx hb dX1_cut_85 (lv_at hl 4 rfl) ?_
          refine lv_iconst (v := 1) hx hb dX1_cut_87 (by decide) ?_
          refine lv_iadd hx hb dX1_cut_88 ?_
          refine lv_topi (fun x31 e_x31 => ?_)
          have hf := dz_ls e_x31 hf
          obtain ⟨g32, hf⟩ := dz_go hf
          refine va_iald hx hb hK hP 16 0 rfl rfl g32 dX1_cut_89 ?_
          refine lv_topi (fun x33 e_x33 => ?_)
          have hf := dz_ls e_x33 hf
          obtain ⟨g34, hf⟩ := dz_go hf
          refine va_iast hx hb hK hP hD hS 16 0 rfl rfl g34 dX1_cut_90 (fun H locs hP1 _ hS => ?_)
          obtain ⟨s35, e_s35, hf⟩ := dz_lo hf
          have hP : va_P D cl (mw ci h ad cA s35) H := by rw [e_s35]; exact hP1
          clear hP1; replace hD := mw_D s35 hD
          refine lv_goto (tgt := 142) hx hb dX1_cut_91 (by decide) ?_
          exact ih.2 v1 v2 v4 v5 s35 H locs hP hD hS ls (lv_sub hl [0, 1, 2, 3, 4] rfl) hf
    · intro v1 v2 v4 v5 σ H locs hP hD hS ls hl hf
      have hf : (dz_l (v5 + 1) fun x1 => (lfX1_cut K k).1 v1 v2 v4 x1 σ : Option (Int32 × pM)) = some res := hf
      obtain ⟨x1, e_x1, hf⟩ := dz_lo hf
      refine lv_iinc (v := x1) (lv' := [(5, .int x1), (0, .ref h), (1, .int v1), (2, .int v2), (4, .int v4)]) hx hb dX1_cut_142 hl (k := 4) rfl (by rw [e_x1]; rfl) (by decide) rfl (fun ls hl => ?_)
      refine lv_goto (tgt := 41) hx hb dX1_cut_145 (by decide) ?_
      exact ih.1 v1 v2 v4 x1 σ H locs hP hD hS ls (lv_sub hl [1, 2, 3, 4, 0] rfl) hf
set_option maxHeartbeats 4000000 in
set_option maxRecDepth 100000 in
theorem mtX1_cut (l : Launch) (D : va_G) (cl : List vw_C) (ci : Nat) (hci : cl[ci]? = some (RX1, TX1, 35)) (h : Nat) (ad : Nat → Nat) (cA : Nat → ClassId) (sz : Nat) (σ : pM) (a0 : Int32) (a1 : Int32) (a2 : Int32) (K : Nat) (res : (Int32 × pM)) (hf : fnX1_cut K a0 a1 a2 σ = some res) : Met l yX1_cut (ws_ yX1_cut cX1_cut 6 (some .int)) ({ frames := 3, cells := 0, slots := 0, locals := 69 }) (mPc D cl ci h ad cA sz σ [.ref h, .int a0, .int a1, .int a2]) (mQi D cl ci h ad cA (va_A (mw ci h ad cA σ) sz) res) 0 0 (va_A (mw ci h ad cA σ) sz) := by
  refine Met.ofW (cc := cX1_cut) (maxL := 6) (ret := some .int) (by decide +kernel) rfl ?_
  intro p e s m args below meth c s₁ B hml hv
  obtain ⟨rfl, hsz, hP, hK, hD0⟩ := hv
  have hx := B.exec
  have hb := B.bytes
  have hr := B.returns
  have hts := atoms_spec (ws := ws_ yX1_cut cX1_cut 6 (some .int)) B.pre
  have hts : ∀ w ∈ lw_all, w.before _ s = true := fun w h => hts w (List.mem_cons_of_mem _ h)
  have hown : s.vm.findClass RX1 = some m.cls := findClass_of_methodNamed B.named
  have hlocks := B.notSynchronized
  subst hsz
  have hD := hD0.self (sz := s.heap.size)
  generalize hAe : va_A (mw ci h ad cA σ) s.heap.size = A at hD ⊢
  have hA : ∀ q : Nat, s.heap.size ≤ q → A q := fun q h => by rw [← hAe]; exact Or.inr h
  clear hAe hD0
  have hS : va_S A s.heap s.heap [] := va_S.rf
  generalize hHe : s.heap = H at hP hS ⊢
  have hS : va_S A s.heap H [] := by rw [hHe]; exact hS
  generalize ([] : List Loc) = locs at hS ⊢
  have hl := lv_entry ([.ref h, .int a0, .int a1, .int a2]) (n := 6) (Nat.le_of_ble_eq_true rfl)
  rw [lg_entry_eq]
  generalize (lg_sl ([.ref h, .int a0, .int a1, .int a2]) ++ List.replicate (6 - (lg_sl ([.ref h, .int a0, .int a1, .int a2])).length) Slot.unset).toArray = ls at hl ⊢
  have hl : lv_has ls 6 [(0, .ref h), (1, .int a0), (2, .int a1), (3, .int a2)] := hl
  have hf : (dz_c (fnX1_isRow K a0 a1 a2 σ) fun x1 s2 => if x1 = (0 : Int32) then (some ((-1), s2)) else (if a1 = (0 : Int32) then (if ¬ (a0 < 0 ∨ 116 ≤ Int32.toNatClampNeg a0) then (dz_l (s2.2.2.1 12 (Int32.toNatClampNeg a0)) fun x4 => dz_l ((9 * a0) + a2) fun x5 => (lfX1_cut K K).1 a0 a1 x4 x5 s2) else none) else (if ¬ (a0 < 0 ∨ 116 ≤ Int32.toNatClampNeg a0) then (dz_l (s2.2.2.1 13 (Int32.toNatClampNeg a0)) fun x7 => dz_l ((9 * a0) + a2) fun x8 => (lfX1_cut K K).1 a0 a1 x7 x8 s2) else none)) : Option (Int32 × pM)) = some res := hf
  have ih := wlX1_cut (l := l) (e := e) (below := below) (h := h) (ad := ad) (cA := cA) hci hA hK K res a0 a1 a2 hx hb hr hlocks hml hown hts K
  refine lv_aload_n hx hb dX1_cut_0 rfl (lv_at hl 0 rfl) ?_
  refine lv_iload_n hx hb dX1_cut_1 rfl (lv_at hl 1 rfl) ?_
  refine lv_iload_n hx hb dX1_cut_2 rfl (lv_at hl 2 rfl) ?_
  refine lv_iload_n hx hb dX1_cut_3 rfl (lv_at hl 3 rfl) ?_
  obtain ⟨x1, s2, hx1, hf⟩ := dz_co hf
  have hFc := dz_free hD hS hA
  refine va_calli (va_runV (As := [.int a0, .int a1, .int a2]) (rest := []) ⟨hx, hb, hml, hown, hts⟩ (mtX1_isRow l D cl ci hci h ad cA H.size σ a0 a1 a2 K (x1, s2) hx1) (cwV 3 hts (lw_V q2030 q2032 qs76 q88 q2033) rfl rfl rfl (by decide +kernel) ⟨Nat.le_of_ble_eq_true rfl, Nat.le_of_ble_eq_true rfl⟩) (m_preV hci hK hP hD) rfl rfl hl.1 rfl (lv_room (Nat.le_of_ble_eq_true rfl)) dX1_cut_4 ⟨Nat.le_refl _, Nat.le_refl _⟩) hS (fun q _ hq => hFc q hq) hFc (fun r u t H1 locs ht hvm hw hB hz hk hS => ?_)
  obtain ⟨hw1, hw2⟩ := Prod.mk.inj hw.symm; subst hw1; subst hw2
  replace hP := m_back ht hB
  replace hD := mw_D s2 hD
  clear hB hk hz hvm ht hFc; generalize H1 = H at hP hS ⊢
  refine lv_if_ne (tgt := 12) hx hb dX1_cut_7 (by decide) (fun c7 => ?_) (fun c7 => ?_)
  · have hf := dz_f c7 hf
    refine lv_iload_n hx hb dX1_cut_12 rfl (lv_at hl 2 rfl) ?_
    refine lv_if_eq (tgt := 25) hx hb dX1_cut_13 (by decide) (fun c13 => ?_) (fun c13 => ?_)
    · have hf := dz_t c13 hf
      refine lv_aload_n hx hb dX1_cut_25 rfl (lv_at hl 0 rfl) ?_
      refine va_get (C := RX1) (T := TX1) (N := 35) (fs := mwF ad s2) (v := .ref (ad 12)) hx hb hts in_X1 hown hK hP 0 rfl hci 12 (by decide) (hts _ q1683) (fun _ hq => hq) rfl dX1_cut_26 ?_
      refine lv_iload_n hx hb dX1_cut_29 rfl (lv_at hl 1 rfl) ?_
      obtain ⟨g3, hf⟩ := dz_go hf
      refine va_iald hx hb hK hP 10 0 rfl rfl g3 dX1_cut_30 ?_
      refine lv_topi (fun x4 e_x4 => ?_)
      have hf := dz_ls e_x4 hf
      refine lv_istore (lv' := [(4, .int x4), (0, .ref h), (1, .int a0), (2, .int a1), (3, .int a2)]) hx hb dX1_cut_31 hl (by decide) rfl (fun ls hl => ?_)
      refine lv_bipush (v := 9) hx hb dX1_cut_33 (by decide) ?_
      refine lv_iload_n hx hb dX1_cut_35 rfl (lv_at hl 2 rfl) ?_
      refine lv_imul hx hb dX1_cut_36 ?_
      refine lv_iload_n hx hb dX1_cut_37 rfl (lv_at hl 4 rfl) ?_
      refine lv_iadd hx hb dX1_cut_38 ?_
      refine lv_topi (fun x5 e_x5 => ?_)
      have hf := dz_ls e_x5 hf
      refine lv_istore (lv' := [(5, .int x5), (4, .int x4), (0, .ref h), (1, .int a0), (2, .int a1), (3, .int a2)]) hx hb dX1_cut_39 hl (by decide) rfl (fun ls hl => ?_)
      exact ih.1 a0 a1 x4 x5 s2 H locs hP hD hS ls (lv_sub hl [2, 3, 4, 1, 0] rfl) hf
    · have hf := dz_f c13 hf
      refine lv_aload_n hx hb dX1_cut_16 rfl (lv_at hl 0 rfl) ?_
      refine va_get (C := RX1) (T := TX1) (N := 35) (fs := mwF ad s2) (v := .ref (ad 13)) hx hb hts in_X1 hown hK hP 0 rfl hci 13 (by decide) (hts _ q1684) (fun _ hq => hq) rfl dX1_cut_17 ?_
      refine lv_iload_n hx hb dX1_cut_20 rfl (lv_at hl 1 rfl) ?_
      obtain ⟨g6, hf⟩ := dz_go hf
      refine va_iald hx hb hK hP 11 0 rfl rfl g6 dX1_cut_21 ?_
      refine lv_topi (fun x7 e_x7 => ?_)
      have hf := dz_ls e_x7 hf
      refine lv_goto (tgt := 31) hx hb dX1_cut_22 (by decide) ?_
      refine lv_istore (lv' := [(4, .int x7), (0, .ref h), (1, .int a0), (2, .int a1), (3, .int a2)]) hx hb dX1_cut_31 hl (by decide) rfl (fun ls hl => ?_)
      refine lv_bipush (v := 9) hx hb dX1_cut_33 (by decide) ?_
      refine lv_iload_n hx hb dX1_cut_35 rfl (lv_at hl 2 rfl) ?_
      refine lv_imul hx hb dX1_cut_36 ?_
      refine lv_iload_n hx hb dX1_cut_37 rfl (lv_at hl 4 rfl) ?_
      refine lv_iadd hx hb dX1_cut_38 ?_
      refine lv_topi (fun x8 e_x8 => ?_)
      have hf := dz_ls e_x8 hf
      refine lv_istore (lv' := [(5, .int x8), (4, .int x7), (0, .ref h), (1, .int a0), (2, .int a1), (3, .int a2)]) hx hb dX1_cut_39 hl (by decide) rfl (fun ls hl => ?_)
      exact ih.1 a0 a1 x7 x8 s2 H locs hP hD hS ls (lv_sub hl [2, 3, 4, 1, 0] rfl) hf
  · have hf := dz_t c7 hf
    refine lv_iconst (v := (-1)) hx hb dX1_cut_10 (by decide) ?_
    exact W.iret (v := (-1)) hx hb hr (fun t ht hW => ⟨⟨(-1), s2, rfl, Option.some.inj hf, by rw [ht]; exact hP, va_K.moved hW.alike hK, hD⟩, hS.F ht⟩) hS.2.2 dX1_cut_11

noncomputable def fnX1_isRightLine (K : Nat) (a0 : Int32) (σ : pM) : Option (Int32 × pM) := dz_b (fnX1_laysRight K σ) fun s2 => if ¬ (a0 < 0 ∨ 60 ≤ Int32.toNatClampNeg a0) then (dz_l (s2.2.2.1 19 (Int32.toNatClampNeg a0)) fun x4 => if x4 = 0 ∨ x4 = 1 then (some (x4, s2)) else none) else none
set_option maxHeartbeats 4000000 in
set_option maxRecDepth 100000 in
theorem mtX1_isRightLine (l : Launch) (D : va_G) (cl : List vw_C) (ci : Nat) (hci : cl[ci]? = some (RX1, TX1, 35)) (h : Nat) (ad : Nat → Nat) (cA : Nat → ClassId) (sz : Nat) (σ : pM) (a0 : Int32) (K : Nat) (res : (Int32 × pM)) (hf : fnX1_isRightLine K a0 σ = some res) : Met l yX1_isRightLine (ws_ yX1_isRightLine cX1_isRightLine 2 (some .boolean)) ({ frames := 5, cells := 0, slots := 0, locals := 130 }) (mPc D cl ci h ad cA sz σ [.ref h, .int a0]) (mQi D cl ci h ad cA (va_A (mw ci h ad cA σ) sz) res) 0 0 (va_A (mw ci h ad cA σ) sz) := by
  refine Met.ofW (cc := cX1_isRightLine) (maxL := 2) (ret := some .boolean) (by decide +kernel) rfl ?_
  intro p e s m args below meth c s₁ B hml hv
  obtain ⟨rfl, hsz, hP, hK, hD0⟩ := hv
  have hx := B.exec
  have hb := B.bytes
  have hr := B.returns
  have hts := atoms_spec (ws := ws_ yX1_isRightLine cX1_isRightLine 2 (some .boolean)) B.pre
  have hts : ∀ w ∈ lw_all, w.before _ s = true := fun w h => hts w (List.mem_cons_of_mem _ h)
  have hown : s.vm.findClass RX1 = some m.cls := findClass_of_methodNamed B.named
  have hlocks := B.notSynchronized
  subst hsz
  have hD := hD0.self (sz := s.heap.size)
  generalize hAe : va_A (mw ci h ad cA σ) s.heap.size = A at hD ⊢
  have hA : ∀ q : Nat, s.heap.size ≤ q → A q := fun q h => by rw [← hAe]; exact Or.inr h
  clear hAe hD0
  have hS : va_S A s.heap s.heap [] := va_S.rf
  generalize hHe : s.heap = H at hP hS ⊢
  have hS : va_S A s.heap H [] := by rw [hHe]; exact hS
  generalize ([] : List Loc) = locs at hS ⊢
  have hl := lv_entry ([.ref h, .int a0]) (n := 2) (Nat.le_of_ble_eq_true rfl)
  rw [lg_entry_eq]
  generalize (lg_sl ([.ref h, .int a0]) ++ List.replicate (2 - (lg_sl ([.ref h, .int a0])).length) Slot.unset).toArray = ls at hl ⊢
  have hl : lv_has ls 2 [(0, .ref h), (1, .int a0)] := hl
  have hf : (dz_b (fnX1_laysRight K σ) fun s2 => if ¬ (a0 < 0 ∨ 60 ≤ Int32.toNatClampNeg a0) then (dz_l (s2.2.2.1 19 (Int32.toNatClampNeg a0)) fun x4 => if x4 = 0 ∨ x4 = 1 then (some (x4, s2)) else none) else none : Option (Int32 × pM)) = some res := hf
  refine lv_aload_n hx hb dX1_isRightLine_0 rfl (lv_at hl 0 rfl) ?_
  obtain ⟨s2, hx1, hf⟩ := dz_bo hf
  have hFc := dz_free hD hS hA
  refine va_callv (va_runV (As := []) (rest := []) ⟨hx, hb, hml, hown, hts⟩ (mtX1_laysRight l D cl ci hci h ad cA H.size σ K s2 hx1) (cwV 0 hts (lw_V q1791 q1793 qs36 q88 q1794) rfl rfl rfl (by decide +kernel) ⟨Nat.le_of_ble_eq_true rfl, Nat.le_of_ble_eq_true rfl⟩) (m_preV hci hK hP hD) rfl rfl hl.1 rfl (lv_room (Nat.le_of_ble_eq_true rfl)) dX1_isRightLine_1 ⟨Nat.le_refl _, Nat.le_refl _⟩) hS (fun q _ hq => hFc q hq) hFc (fun u t H1 locs ht hvm hw hB hz hk hS => ?_)
  replace hw := hw.symm; subst hw
  replace hP := m_back ht hB
  replace hD := mw_D s2 hD
  clear hB hk hz hvm ht hFc; generalize H1 = H at hP hS ⊢
  refine lv_aload_n hx hb dX1_isRightLine_4 rfl (lv_at hl 0 rfl) ?_
  refine va_get (C := RX1) (T := TX1) (N := 35) (fs := mwF ad s2) (v := .ref (ad 19)) hx hb hts in_X1 hown hK hP 0 rfl hci 19 (by decide) (hts _ q1690) (fun _ hq => hq) rfl dX1_isRightLine_5 ?_
  refine lv_iload_n hx hb dX1_isRightLine_8 rfl (lv_at hl 1 rfl) ?_
  obtain ⟨g3, hf⟩ := dz_go hf
  refine va_zald hx hb hK hP 17 2 rfl rfl g3 dX1_isRightLine_9 ?_
  refine lv_topi (fun x4 e_x4 => ?_)
  have hf := dz_ls e_x4 hf
  obtain ⟨g5, hf⟩ := dz_go hf
  exact W.zret (v := x4) hx hb hr (dz_nz g5) (fun t ht hW => ⟨⟨x4, s2, rfl, Option.some.inj hf, by rw [ht]; exact hP, va_K.moved hW.alike hK, hD⟩, hS.F ht⟩) hS.2.2 dX1_isRightLine_10

noncomputable def lfX1_move (K : Nat) : Nat → (Int32 → Int32 → Int32 → pM → Option (Int32 × pM)) × (Int32 → Int32 → pM → Option (Int32 × pM)) := Nat.rec (motive := fun _ => (Int32 → Int32 → Int32 → pM → Option (Int32 × pM)) × (Int32 → Int32 → pM → Option (Int32 × pM))) ((fun _ _ _ _ => none), (fun _ _ _ => none)) (fun _ G => ((fun v1 v2 v3 σ => if v2 ≤ v3 then (G.2 v2 v1 σ) else (dz_b (fnX1_becomes K v3 (v3 + 1) σ) fun s2 => dz_l (v3 + 1) fun x3 => G.1 v1 v2 x3 s2)), (fun v2 v3 σ => if v3 ≤ v2 then (dz_b (fnX1_becomes K v2 115 σ) fun s2 => dz_c (fnX1_isRightLine K v2 s2) fun x3 s4 => if x3 = (0 : Int32) then (some (0, s4)) else (some (1, s4))) else (dz_b (fnX1_becomes K v3 (v3 - 1) σ) fun s6 => dz_l (v3 + (-1)) fun x7 => G.2 v2 x7 s6))))
noncomputable def fnX1_move (K : Nat) (a0 : Int32) (a1 : Int32) (σ : pM) : Option (Int32 × pM) := dz_c (fnX1_isLine K a0 σ) fun x1 s2 => if x1 = (0 : Int32) then (some ((-1), s2)) else (dz_c (fnX1_isLine K a1 s2) fun x3 s4 => if x3 = (0 : Int32) then (some ((-1), s4)) else (if a0 = a1 then (some ((-1), s4)) else (dz_b (fnX1_becomes K 115 a0 s4) fun s6 => (lfX1_move K K).1 a0 a1 a0 s6)))
set_option maxHeartbeats 4000000 in
set_option maxRecDepth 100000 in
theorem wlX1_move {p : Program} {l : Launch} {e : Env} {s : State} {m : MethodId} {below : List Frame} {meth : Method} {c : Code} {D : va_G} {cl : List vw_C} {ci : Nat} (hci : cl[ci]? = some (RX1, TX1, 35)) {h : Nat} {ad : Nat → Nat} {cA : Nat → ClassId} {A : Nat → Prop} (hA : ∀ q : Nat, s.heap.size ≤ q → A q) (hK : va_K D cl (mtys cA) s) (K : Nat) (res : (Int32 × pM)) (a0 : Int32) (a1 : Int32) (hx : p.tables.exec = Jvm.exec) (hb : c.code = cX1_move) (hr : meth.sig.returnType = some .int) (hlocks : meth.locks = false) (hml : c.maxLocals = 4) (hown : s.vm.findClass RX1 = some m.cls) (hts : ∀ w ∈ lw_all, w.before ([.ref h, .int a0, .int a1] : List Value).toArray s = true) : ∀ k : Nat, (∀ (v1 : Int32) (v2 : Int32) (v3 : Int32) (σ : pM) (H : Heap) (locs : List Loc), va_P D cl (mw ci h ad cA σ) H → va_D A (mw ci h ad cA σ) → va_S A s.heap H locs → ∀ (ls : Array Slot), lv_has ls 4 [(0, .ref h), (1, .int v1), (2, .int v2), (3, .int v3)] → (lfX1_move K k).1 v1 v2 v3 σ = some res → W p l e (headSpec (ws_ yX1_move cX1_move 4 (some .int)) ({ frames := 6, cells := 0, slots := 0, locals := 151 })).room s m ([.ref h, .int a0, .int a1] : List Value).toArray below meth c H locs 0 0 (MQ below (mQi D cl ci h ad cA A res) ([.ref h, .int a0, .int a1] : List Value).toArray s 0 0 A) (F0 m 32 ls [])) ∧ (∀ (v2 : Int32) (v3 : Int32) (σ : pM) (H : Heap) (locs : List Loc), va_P D cl (mw ci h ad cA σ) H → va_D A (mw ci h ad cA σ) → va_S A s.heap H locs → ∀ (ls : Array Slot), lv_has ls 4 [(0, .ref h), (2, .int v2), (3, .int v3)] → (lfX1_move K k).2 v2 v3 σ = some res → W p l e (headSpec (ws_ yX1_move cX1_move 4 (some .int)) ({ frames := 6, cells := 0, slots := 0, locals := 151 })).room s m ([.ref h, .int a0, .int a1] : List Value).toArray below meth c H locs 0 0 (MQ below (mQi D cl ci h ad cA A res) ([.ref h, .int a0, .int a1] : List Value).toArray s 0 0 A) (F0 m 53 ls [])) := by
  intro k
  induction k with
  | zero =>
    exact ⟨fun _ _ _ _ _ _ _ _ _ _ _ hf => (by cases hf), fun _ _ _ _ _ _ _ _ _ _ hf => (by cases hf)⟩
  | succ k ih =>
    refine ⟨?_, ?_⟩
    · intro v1 v2 v3 σ H locs hP hD hS ls hl hf
      have hf : (if v2 ≤ v3 then ((lfX1_move K k).2 v2 v1 σ) else (dz_b (fnX1_becomes K v3 (v3 + 1) σ) fun s2 => dz_l (v3 + 1) fun x3 => (lfX1_move K k).1 v1 v2 x3 s2) : Option (Int32 × pM)) = some res := hf
      refine lv_iload_n hx hb dX1_move_32 rfl (lv_at hl 3 rfl) ?_
      refine lv_iload_n hx hb dX1_move_33 rfl (lv_at hl 2 rfl) ?_
      refine lv_icmp_ge (tgt := 51) hx hb dX1_move_34 (by decide) (fun c34 => ?_) (fun c34 => ?_)
      · have hf := dz_t c34 hf
        refine lv_iload_n hx hb dX1_move_51 rfl (lv_at hl 1 rfl) ?_
        refine lv_istore_n (lv' := [(3, .int v1), (0, .ref h), (1, .int v1), (2, .int v2)]) hx hb dX1_move_52 rfl hl (by decide) rfl (fun ls hl => ?_)
        exact ih.2 v2 v1 σ H locs hP hD hS ls (lv_sub hl [1, 3, 0] rfl) hf
      · have hf := dz_f c34 hf
        refine lv_aload_n hx hb dX1_move_37 rfl (lv_at hl 0 rfl) ?_
        refine lv_iload_n hx hb dX1_move_38 rfl (lv_at hl 3 rfl) ?_
        refine lv_iload_n hx hb dX1_move_39 rfl (lv_at hl 3 rfl) ?_
        refine lv_iconst (v := 1) hx hb dX1_move_40 (by decide) ?_
        refine lv_iadd hx hb dX1_move_41 ?_
        obtain ⟨s2, hx1, hf⟩ := dz_bo hf
        have hFc := dz_free hD hS hA
        refine va_callv (va_runV (As := [.int v3, .int (v3 + 1)]) (rest := []) ⟨hx, hb, hml, hown, hts⟩ (mtX1_becomes l D cl ci hci h ad cA H.size σ v3 (v3 + 1) K s2 hx1) (cwV 2 hts (lw_V q1915 q1917 qs59 q88 q1918) rfl rfl rfl (by decide +kernel) ⟨Nat.le_of_ble_eq_true rfl, Nat.le_of_ble_eq_true rfl⟩) (m_preV hci hK hP hD) rfl rfl hl.1 rfl (lv_room (Nat.le_of_ble_eq_true rfl)) dX1_move_42 ⟨Nat.le_refl _, Nat.le_refl _⟩) hS (fun q _ hq => hFc q hq) hFc (fun u t H1 locs ht hvm hw hB hz hk hS => ?_)
        replace hw := hw.symm; subst hw
        replace hP := m_back ht hB
        replace hD := mw_D s2 hD
        clear hB hk hz hvm ht hFc; generalize H1 = H at hP hS ⊢
        obtain ⟨x3, e_x3, hf⟩ := dz_lo hf
        refine lv_iinc (v := x3) (lv' := [(3, .int x3), (0, .ref h), (1, .int v1), (2, .int v2)]) hx hb dX1_move_45 hl (k := 3) rfl (by rw [e_x3]; rfl) (by decide) rfl (fun ls hl => ?_)
        refine lv_goto (tgt := 32) hx hb dX1_move_48 (by decide) ?_
        exact ih.1 v1 v2 x3 s2 H locs hP hD hS ls (lv_sub hl [1, 2, 3, 0] rfl) hf
    · intro v2 v3 σ H locs hP hD hS ls hl hf
      have hf : (if v3 ≤ v2 then (dz_b (fnX1_becomes K v2 115 σ) fun s2 => dz_c (fnX1_isRightLine K v2 s2) fun x3 s4 => if x3 = (0 : Int32) then (some (0, s4)) else (some (1, s4))) else (dz_b (fnX1_becomes K v3 (v3 - 1) σ) fun s6 => dz_l (v3 + (-1)) fun x7 => (lfX1_move K k).2 v2 x7 s6) : Option (Int32 × pM)) = some res := hf
      refine lv_iload_n hx hb dX1_move_53 rfl (lv_at hl 2 rfl) ?_
      refine lv_iload_n hx hb dX1_move_54 rfl (lv_at hl 1 rfl) ?_
      refine lv_icmp_le (tgt := 72) hx hb dX1_move_55 (by decide) (fun c55 => ?_) (fun c55 => ?_)
      · have hf := dz_t c55 hf
        refine lv_aload_n hx hb dX1_move_72 rfl (lv_at hl 0 rfl) ?_
        refine lv_iload_n hx hb dX1_move_73 rfl (lv_at hl 1 rfl) ?_
        refine lv_bipush (v := 115) hx hb dX1_move_74 (by decide) ?_
        obtain ⟨s2, hx1, hf⟩ := dz_bo hf
        have hFc := dz_free hD hS hA
        refine va_callv (va_runV (As := [.int v2, .int 115]) (rest := []) ⟨hx, hb, hml, hown, hts⟩ (mtX1_becomes l D cl ci hci h ad cA H.size σ v2 115 K s2 hx1) (cwV 2 hts (lw_V q1915 q1917 qs59 q88 q1918) rfl rfl rfl (by decide +kernel) ⟨Nat.le_of_ble_eq_true rfl, Nat.le_of_ble_eq_true rfl⟩) (m_preV hci hK hP hD) rfl rfl hl.1 rfl (lv_room (Nat.le_of_ble_eq_true rfl)) dX1_move_76 ⟨Nat.le_refl _, Nat.le_refl _⟩) hS (fun q _ hq => hFc q hq) hFc (fun u t H1 locs ht hvm hw hB hz hk hS => ?_)
        replace hw := hw.symm; subst hw
        replace hP := m_back ht hB
        replace hD := mw_D s2 hD
        clear hB hk hz hvm ht hFc; generalize H1 = H at hP hS ⊢
        refine lv_aload_n hx hb dX1_move_79 rfl (lv_at hl 0 rfl) ?_
        refine lv_iload_n hx hb dX1_move_80 rfl (lv_at hl 1 rfl) ?_
        obtain ⟨x3, s4, hx3, hf⟩ := dz_co hf
        have hFc := dz_free hD hS hA
        refine va_calli (va_runV (As := [.int v2]) (rest := []) ⟨hx, hb, hml, hown, hts⟩ (mtX1_isRightLine l D cl ci hci h ad cA H.size s2 v2 K (x3, s4) hx3) (cwV 1 hts (lw_V q2047 q2049 qs77 q88 q2050) rfl rfl rfl (by decide +kernel) ⟨Nat.le_of_ble_eq_true rfl, Nat.le_of_ble_eq_true rfl⟩) (m_preV hci hK hP hD) rfl rfl hl.1 rfl (lv_room (Nat.le_of_ble_eq_true rfl)) dX1_move_81 ⟨Nat.le_refl _, Nat.le_refl _⟩) hS (fun q _ hq => hFc q hq) hFc (fun r u t H1 locs ht hvm hw hB hz hk hS => ?_)
        obtain ⟨hw1, hw2⟩ := Prod.mk.inj hw.symm; subst hw1; subst hw2
        replace hP := m_back ht hB
        replace hD := mw_D s4 hD
        clear hB hk hz hvm ht hFc; generalize H1 = H at hP hS ⊢
        refine lv_if_eq (tgt := 91) hx hb dX1_move_84 (by decide) (fun c84 => ?_) (fun c84 => ?_)
        · have hf := dz_t c84 hf
          refine lv_iconst (v := 0) hx hb dX1_move_91 (by decide) ?_
          exact W.iret (v := 0) hx hb hr (fun t ht hW => ⟨⟨0, s4, rfl, Option.some.inj hf, by rw [ht]; exact hP, va_K.moved hW.alike hK, hD⟩, hS.F ht⟩) hS.2.2 dX1_move_92
        · have hf := dz_f c84 hf
          refine lv_iconst (v := 1) hx hb dX1_move_87 (by decide) ?_
          refine lv_goto (tgt := 92) hx hb dX1_move_88 (by decide) ?_
          exact W.iret (v := 1) hx hb hr (fun t ht hW => ⟨⟨1, s4, rfl, Option.some.inj hf, by rw [ht]; exact hP, va_K.moved hW.alike hK, hD⟩, hS.F ht⟩) hS.2.2 dX1_move_92
      · have hf := dz_f c55 hf
        refine lv_aload_n hx hb dX1_move_58 rfl (lv_at hl 0 rfl) ?_
        refine lv_iload_n hx hb dX1_move_59 rfl (lv_at hl 2 rfl) ?_
        refine lv_iload_n hx hb dX1_move_60 rfl (lv_at hl 2 rfl) ?_
        refine lv_iconst (v := 1) hx hb dX1_move_61 (by decide) ?_
        refine lv_isub hx hb dX1_move_62 ?_
        obtain ⟨s6, hx5, hf⟩ := dz_bo hf
        have hFc := dz_free hD hS hA
        refine va_callv (va_runV (As := [.int v3, .int (v3 - 1)]) (rest := []) ⟨hx, hb, hml, hown, hts⟩ (mtX1_becomes l D cl ci hci h ad cA H.size σ v3 (v3 - 1) K s6 hx5) (cwV 2 hts (lw_V q1915 q1917 qs59 q88 q1918) rfl rfl rfl (by decide +kernel) ⟨Nat.le_of_ble_eq_true rfl, Nat.le_of_ble_eq_true rfl⟩) (m_preV hci hK hP hD) rfl rfl hl.1 rfl (lv_room (Nat.le_of_ble_eq_true rfl)) dX1_move_63 ⟨Nat.le_refl _, Nat.le_refl _⟩) hS (fun q _ hq => hFc q hq) hFc (fun u t H1 locs ht hvm hw hB hz hk hS => ?_)
        replace hw := hw.symm; subst hw
        replace hP := m_back ht hB
        replace hD := mw_D s6 hD
        clear hB hk hz hvm ht hFc; generalize H1 = H at hP hS ⊢
        obtain ⟨x7, e_x7, hf⟩ := dz_lo hf
        refine lv_iinc (v := x7) (lv' := [(3, .int x7), (0, .ref h), (2, .int v2)]) hx hb dX1_move_66 hl (k := 2) rfl (by rw [e_x7]; rfl) (by decide) rfl (fun ls hl => ?_)
        refine lv_goto (tgt := 53) hx hb dX1_move_69 (by decide) ?_
        exact ih.2 v2 x7 s6 H locs hP hD hS ls (lv_sub hl [1, 2, 0] rfl) hf
set_option maxHeartbeats 4000000 in
set_option maxRecDepth 100000 in
theorem mtX1_move (l : Launch) (D : va_G) (cl : List vw_C) (ci : Nat) (hci : cl[ci]? = some (RX1, TX1, 35)) (h : Nat) (ad : Nat → Nat) (cA : Nat → ClassId) (sz : Nat) (σ : pM) (a0 : Int32) (a1 : Int32) (K : Nat) (res : (Int32 × pM)) (hf : fnX1_move K a0 a1 σ = some res) : Met l yX1_move (ws_ yX1_move cX1_move 4 (some .int)) ({ frames := 6, cells := 0, slots := 0, locals := 151 }) (mPc D cl ci h ad cA sz σ [.ref h, .int a0, .int a1]) (mQi D cl ci h ad cA (va_A (mw ci h ad cA σ) sz) res) 0 0 (va_A (mw ci h ad cA σ) sz) := by
  refine Met.ofW (cc := cX1_move) (maxL := 4) (ret := some .int) (by decide +kernel) rfl ?_
  intro p e s m args below meth c s₁ B hml hv
  obtain ⟨rfl, hsz, hP, hK, hD0⟩ := hv
  have hx := B.exec
  have hb := B.bytes
  have hr := B.returns
  have hts := atoms_spec (ws := ws_ yX1_move cX1_move 4 (some .int)) B.pre
  have hts : ∀ w ∈ lw_all, w.before _ s = true := fun w h => hts w (List.mem_cons_of_mem _ h)
  have hown : s.vm.findClass RX1 = some m.cls := findClass_of_methodNamed B.named
  have hlocks := B.notSynchronized
  subst hsz
  have hD := hD0.self (sz := s.heap.size)
  generalize hAe : va_A (mw ci h ad cA σ) s.heap.size = A at hD ⊢
  have hA : ∀ q : Nat, s.heap.size ≤ q → A q := fun q h => by rw [← hAe]; exact Or.inr h
  clear hAe hD0
  have hS : va_S A s.heap s.heap [] := va_S.rf
  generalize hHe : s.heap = H at hP hS ⊢
  have hS : va_S A s.heap H [] := by rw [hHe]; exact hS
  generalize ([] : List Loc) = locs at hS ⊢
  have hl := lv_entry ([.ref h, .int a0, .int a1]) (n := 4) (Nat.le_of_ble_eq_true rfl)
  rw [lg_entry_eq]
  generalize (lg_sl ([.ref h, .int a0, .int a1]) ++ List.replicate (4 - (lg_sl ([.ref h, .int a0, .int a1])).length) Slot.unset).toArray = ls at hl ⊢
  have hl : lv_has ls 4 [(0, .ref h), (1, .int a0), (2, .int a1)] := hl
  have hf : (dz_c (fnX1_isLine K a0 σ) fun x1 s2 => if x1 = (0 : Int32) then (some ((-1), s2)) else (dz_c (fnX1_isLine K a1 s2) fun x3 s4 => if x3 = (0 : Int32) then (some ((-1), s4)) else (if a0 = a1 then (some ((-1), s4)) else (dz_b (fnX1_becomes K 115 a0 s4) fun s6 => (lfX1_move K K).1 a0 a1 a0 s6))) : Option (Int32 × pM)) = some res := hf
  have ih := wlX1_move (l := l) (e := e) (below := below) (h := h) (ad := ad) (cA := cA) hci hA hK K res a0 a1 hx hb hr hlocks hml hown hts K
  refine lv_aload_n hx hb dX1_move_0 rfl (lv_at hl 0 rfl) ?_
  refine lv_iload_n hx hb dX1_move_1 rfl (lv_at hl 1 rfl) ?_
  obtain ⟨x1, s2, hx1, hf⟩ := dz_co hf
  have hFc := dz_free hD hS hA
  refine va_calli (va_runV (As := [.int a0]) (rest := []) ⟨hx, hb, hml, hown, hts⟩ (mtX1_isLine l D cl ci hci h ad cA H.size σ a0 K (x1, s2) hx1) (cwV 1 hts (lw_V q1923 q1925 qs60 q88 q1926) rfl rfl rfl (by decide +kernel) ⟨Nat.le_of_ble_eq_true rfl, Nat.le_of_ble_eq_true rfl⟩) (m_preV hci hK hP hD) rfl rfl hl.1 rfl (lv_room (Nat.le_of_ble_eq_true rfl)) dX1_move_2 ⟨Nat.le_refl _, Nat.le_refl _⟩) hS (fun q _ hq => hFc q hq) hFc (fun r u t H1 locs ht hvm hw hB hz hk hS => ?_)
  obtain ⟨hw1, hw2⟩ := Prod.mk.inj hw.symm; subst hw1; subst hw2
  replace hP := m_back ht hB
  replace hD := mw_D s2 hD
  clear hB hk hz hvm ht hFc; generalize H1 = H at hP hS ⊢
  refine lv_if_eq (tgt := 21) hx hb dX1_move_5 (by decide) (fun c5 => ?_) (fun c5 => ?_)
  · have hf := dz_t c5 hf
    refine lv_iconst (v := (-1)) hx hb dX1_move_21 (by decide) ?_
    exact W.iret (v := (-1)) hx hb hr (fun t ht hW => ⟨⟨(-1), s2, rfl, Option.some.inj hf, by rw [ht]; exact hP, va_K.moved hW.alike hK, hD⟩, hS.F ht⟩) hS.2.2 dX1_move_22
  · have hf := dz_f c5 hf
    refine lv_aload_n hx hb dX1_move_8 rfl (lv_at hl 0 rfl) ?_
    refine lv_iload_n hx hb dX1_move_9 rfl (lv_at hl 2 rfl) ?_
    obtain ⟨x3, s4, hx3, hf⟩ := dz_co hf
    have hFc := dz_free hD hS hA
    refine va_calli (va_runV (As := [.int a1]) (rest := []) ⟨hx, hb, hml, hown, hts⟩ (mtX1_isLine l D cl ci hci h ad cA H.size s2 a1 K (x3, s4) hx3) (cwV 1 hts (lw_V q1923 q1925 qs60 q88 q1926) rfl rfl rfl (by decide +kernel) ⟨Nat.le_of_ble_eq_true rfl, Nat.le_of_ble_eq_true rfl⟩) (m_preV hci hK hP hD) rfl rfl hl.1 rfl (lv_room (Nat.le_of_ble_eq_true rfl)) dX1_move_10 ⟨Nat.le_refl _, Nat.le_refl _⟩) hS (fun q _ hq => hFc q hq) hFc (fun r u t H1 locs ht hvm hw hB hz hk hS => ?_)
    obtain ⟨hw1, hw2⟩ := Prod.mk.inj hw.symm; subst hw1; subst hw2
    replace hP := m_back ht hB
    replace hD := mw_D s4 hD
    clear hB hk hz hvm ht hFc; generalize H1 = H at hP hS ⊢
    refine lv_if_eq (tgt := 21) hx hb dX1_move_13 (by decide) (fun c13 => ?_) (fun c13 => ?_)
    · have hf := dz_t c13 hf
      refine lv_iconst (v := (-1)) hx hb dX1_move_21 (by decide) ?_
      exact W.iret (v := (-1)) hx hb hr (fun t ht hW => ⟨⟨(-1), s4, rfl, Option.some.inj hf, by rw [ht]; exact hP, va_K.moved hW.alike hK, hD⟩, hS.F ht⟩) hS.2.2 dX1_move_22
    · have hf := dz_f c13 hf
      refine lv_iload_n hx hb dX1_move_16 rfl (lv_at hl 1 rfl) ?_
      refine lv_iload_n hx hb dX1_move_17 rfl (lv_at hl 2 rfl) ?_
      refine lv_icmp_ne (tgt := 23) hx hb dX1_move_18 (by decide) (fun c18 => ?_) (fun c18 => ?_)
      · have hf := dz_f c18 hf
        refine lv_aload_n hx hb dX1_move_23 rfl (lv_at hl 0 rfl) ?_
        refine lv_bipush (v := 115) hx hb dX1_move_24 (by decide) ?_
        refine lv_iload_n hx hb dX1_move_26 rfl (lv_at hl 1 rfl) ?_
        obtain ⟨s6, hx5, hf⟩ := dz_bo hf
        have hFc := dz_free hD hS hA
        refine va_callv (va_runV (As := [.int 115, .int a0]) (rest := []) ⟨hx, hb, hml, hown, hts⟩ (mtX1_becomes l D cl ci hci h ad cA H.size s4 115 a0 K s6 hx5) (cwV 2 hts (lw_V q1915 q1917 qs59 q88 q1918) rfl rfl rfl (by decide +kernel) ⟨Nat.le_of_ble_eq_true rfl, Nat.le_of_ble_eq_true rfl⟩) (m_preV hci hK hP hD) rfl rfl hl.1 rfl (lv_room (Nat.le_of_ble_eq_true rfl)) dX1_move_27 ⟨Nat.le_refl _, Nat.le_refl _⟩) hS (fun q _ hq => hFc q hq) hFc (fun u t H1 locs ht hvm hw hB hz hk hS => ?_)
        replace hw := hw.symm; subst hw
        replace hP := m_back ht hB
        replace hD := mw_D s6 hD
        clear hB hk hz hvm ht hFc; generalize H1 = H at hP hS ⊢
        refine lv_iload_n hx hb dX1_move_30 rfl (lv_at hl 1 rfl) ?_
        refine lv_istore_n (lv' := [(3, .int a0), (0, .ref h), (1, .int a0), (2, .int a1)]) hx hb dX1_move_31 rfl hl (by decide) rfl (fun ls hl => ?_)
        exact ih.1 a0 a1 a0 s6 H locs hP hD hS ls (lv_sub hl [1, 2, 3, 0] rfl) hf
      · have hf := dz_t c18 hf
        refine lv_iconst (v := (-1)) hx hb dX1_move_21 (by decide) ?_
        exact W.iret (v := (-1)) hx hb hr (fun t ht hW => ⟨⟨(-1), s4, rfl, Option.some.inj hf, by rw [ht]; exact hP, va_K.moved hW.alike hK, hD⟩, hS.F ht⟩) hS.2.2 dX1_move_22

noncomputable def fnX1_has (K : Nat) (a0 : Int64) (a1 : Int32) : Option Int32 := if ((a0 >>> (Int32.toInt64 a1 &&& 63)) &&& 1) = (1 : Int64) then (some 1) else (some 0)
set_option maxHeartbeats 4000000 in
set_option maxRecDepth 100000 in
theorem mtX1_has (l : Launch) (a0 : Int64) (a1 : Int32) (K : Nat) (res : Int32) (hf : fnX1_has K a0 a1 = some res) : Met l yX1_has (ws_ yX1_has cX1_has 3 (some .boolean)) ({ frames := 0, cells := 0, slots := 0, locals := 0 }) (dz_P [.long a0, .int a1]) (dz_Qi res) 0 0 (fun _ => False) := by
  refine Met.ofW (cc := cX1_has) (maxL := 3) (ret := some .boolean) (by decide +kernel) rfl ?_
  intro p e s m args below meth c s₁ B hml hv
  obtain ⟨rfl, -⟩ := hv
  have hx := B.exec
  have hb := B.bytes
  have hr := B.returns
  have hts := atoms_spec (ws := ws_ yX1_has cX1_has 3 (some .boolean)) B.pre
  have hts : ∀ w ∈ lw_all, w.before _ s = true := fun w h => hts w (List.mem_cons_of_mem _ h)
  have hown : s.vm.findClass RX1 = some m.cls := findClass_of_methodNamed B.named
  have hlocks := B.notSynchronized
  have hS : va_S (fun _ => False) s.heap s.heap [] := va_S.rf
  generalize hHe : s.heap = H at hS ⊢
  have hS : va_S (fun _ => False) s.heap H [] := by rw [hHe]; exact hS
  generalize ([] : List Loc) = locs at hS ⊢
  have hl := lv_entry ([.long a0, .int a1]) (n := 3) (Nat.le_of_ble_eq_true rfl)
  rw [lg_entry_eq]
  generalize (lg_sl ([.long a0, .int a1]) ++ List.replicate (3 - (lg_sl ([.long a0, .int a1])).length) Slot.unset).toArray = ls at hl ⊢
  have hl : lv_has ls 3 [(0, .long a0), (2, .int a1)] := hl
  have hf : (if ((a0 >>> (Int32.toInt64 a1 &&& 63)) &&& 1) = (1 : Int64) then (some 1) else (some 0) : Option Int32) = some res := hf
  refine lv_lload_n hx hb dX1_has_0 rfl (lv_at hl 0 rfl) ?_
  refine lv_iload_n hx hb dX1_has_1 rfl (lv_at hl 1 rfl) ?_
  refine lv_lshr hx hb dX1_has_2 (rfl : _ = a0 >>> (Int32.toInt64 a1 &&& 63)) ?_
  refine lv_lconst (v := 1) hx hb dX1_has_3 rfl ?_
  refine lv_land hx hb dX1_has_4 ?_
  refine lv_lconst (v := 1) hx hb dX1_has_5 rfl ?_
  refine W.lcmp hx hb dX1_has_6 ?_
  refine lv_if_ne (tgt := 14) hx hb dX1_has_7 (by decide) (fun c7 => ?_) (fun c7 => ?_)
  · have c7 : ¬ ((a0 >>> (Int32.toInt64 a1 &&& 63)) &&& 1) = (1 : Int64) := fun hq => c7 ((lg_cmp_eq _ _).mpr hq)
    have hf := dz_f c7 hf
    refine lv_iconst (v := 0) hx hb dX1_has_14 (by decide) ?_
    exact W.zret (v := 0) hx hb hr rfl (fun t ht hW => ⟨⟨0, (), rfl, Option.some.inj hf, trivial⟩, hS.F ht⟩) hS.2.2 dX1_has_15
  · have c7 : ((a0 >>> (Int32.toInt64 a1 &&& 63)) &&& 1) = (1 : Int64) := (lg_cmp_eq _ _).mp c7
    have hf := dz_t c7 hf
    refine lv_iconst (v := 1) hx hb dX1_has_10 (by decide) ?_
    refine lv_goto (tgt := 15) hx hb dX1_has_11 (by decide) ?_
    exact W.zret (v := 1) hx hb hr rfl (fun t ht hW => ⟨⟨1, (), rfl, Option.some.inj hf, trivial⟩, hS.F ht⟩) hS.2.2 dX1_has_15

