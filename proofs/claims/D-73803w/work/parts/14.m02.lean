noncomputable def lfX1_times_1_2 (K : Nat) : Nat → (Int64 → Int32 → pM → Option pM) × (Int64 → Int32 → Int32 → pM → Option pM) × (Int32 → pM → Option pM) := Nat.rec (motive := fun _ => (Int64 → Int32 → pM → Option pM) × (Int64 → Int32 → Int32 → pM → Option pM) × (Int32 → pM → Option pM)) ((fun _ _ _ => none), (fun _ _ _ _ => none), (fun _ _ => none)) (fun _ G => ((fun v3 v5 σ => if (2 : Int32) ≤ v5 then (G.2.2 0 σ) else (G.2.1 v3 v5 0 σ)), (fun v3 v5 v6 σ => if (2 : Int32) ≤ v6 then (dz_l (v5 + 1) fun x1 => G.1 v3 x1 σ) else (dz_l (2 * v5) fun x2 => if ¬ (x2 < 0 ∨ 4 ≤ Int32.toNatClampNeg x2) then (dz_l (σ.2.2.2 1 (Int32.toNatClampNeg x2)) fun x4 => if ¬ (v6 < 0 ∨ 4 ≤ Int32.toNatClampNeg v6) then (dz_l (σ.2.2.2 2 (Int32.toNatClampNeg v6)) fun x6 => dz_l ((2 * v5) + 1) fun x7 => if ¬ (x7 < 0 ∨ 4 ≤ Int32.toNatClampNeg x7) then (dz_l (σ.2.2.2 1 (Int32.toNatClampNeg x7)) fun x9 => dz_l (2 + v6) fun x10 => if ¬ (x10 < 0 ∨ 4 ≤ Int32.toNatClampNeg x10) then (dz_l (σ.2.2.2 2 (Int32.toNatClampNeg x10)) fun x12 => if ¬ v3 = 0 then (dz_l (((x4 * x6) + (x9 * x12)) - ((x4 * x6) + (x9 * x12)) / v3 * v3) fun x14 => if ¬ (((2 * v5) + v6) < 0 ∨ 4 ≤ Int32.toNatClampNeg ((2 * v5) + v6)) then (dz_l (mJ σ 3 (Int32.toNatClampNeg ((2 * v5) + v6)) x14) fun s16 => dz_l (v6 + 1) fun x17 => G.2.1 v3 v5 x17 s16) else none) else none) else none) else none) else none) else none)), (fun v5 σ => if (4 : Int32) ≤ v5 then (some σ) else (if ¬ (v5 < 0 ∨ 4 ≤ Int32.toNatClampNeg v5) then (dz_l (σ.2.2.2 3 (Int32.toNatClampNeg v5)) fun x2 => if ¬ (v5 < 0 ∨ 4 ≤ Int32.toNatClampNeg v5) then (dz_l (mJ σ 1 (Int32.toNatClampNeg v5) x2) fun s4 => dz_l (v5 + 1) fun x5 => G.2.2 x5 s4) else none) else none))))
noncomputable def fnX1_times_1_2 (K : Nat) (a0 : Int64) (σ : pM) : Option pM := (lfX1_times_1_2 K K).1 a0 0 σ
set_option maxHeartbeats 4000000 in
set_option maxRecDepth 100000 in
theorem wlX1_times_1_2 {p : Program} {l : Launch} {e : Env} {s : State} {m : MethodId} {below : List Frame} {meth : Method} {c : Code} {D : va_G} {cl : List vw_C} {ci : Nat} (hci : cl[ci]? = some (RX1, TX1, 35)) {h : Nat} {ad : Nat → Nat} {cA : Nat → ClassId} {A : Nat → Prop} (hA : ∀ q : Nat, s.heap.size ≤ q → A q) (hK : va_K D cl (mtys cA) s) (K : Nat) (res : pM) (a0 : Int64) (hx : p.tables.exec = Jvm.exec) (hb : c.code = cX1_times) (hr : meth.sig.returnType = none) (hlocks : meth.locks = false) (hml : c.maxLocals = 7) (hown : s.vm.findClass RX1 = some m.cls) (hts : ∀ w ∈ lw_all, w.before ([.ref h, .ref (ad 1), .ref (ad 2), .long a0] : List Value).toArray s = true) : ∀ k : Nat, (∀ (v3 : Int64) (v5 : Int32) (σ : pM) (H : Heap) (locs : List Loc), va_P D cl (mw ci h ad cA σ) H → va_D A (mw ci h ad cA σ) → va_S A s.heap H locs → ∀ (ls : Array Slot), lv_has ls 7 [(0, .ref h), (1, .ref (ad 1)), (2, .ref (ad 2)), (3, .long v3), (5, .int v5)] → (lfX1_times_1_2 K k).1 v3 v5 σ = some res → W p l e (headSpec (ws_ yX1_times cX1_times 7 (none)) ({ frames := 0, cells := 0, slots := 0, locals := 0 })).room s m ([.ref h, .ref (ad 1), .ref (ad 2), .long a0] : List Value).toArray below meth c H locs 0 0 (MQ below (mQv D cl ci h ad cA A res) ([.ref h, .ref (ad 1), .ref (ad 2), .long a0] : List Value).toArray s 0 0 A) (F0 m 3 ls [])) ∧ (∀ (v3 : Int64) (v5 : Int32) (v6 : Int32) (σ : pM) (H : Heap) (locs : List Loc), va_P D cl (mw ci h ad cA σ) H → va_D A (mw ci h ad cA σ) → va_S A s.heap H locs → ∀ (ls : Array Slot), lv_has ls 7 [(0, .ref h), (1, .ref (ad 1)), (2, .ref (ad 2)), (3, .long v3), (5, .int v5), (6, .int v6)] → (lfX1_times_1_2 K k).2.1 v3 v5 v6 σ = some res → W p l e (headSpec (ws_ yX1_times cX1_times 7 (none)) ({ frames := 0, cells := 0, slots := 0, locals := 0 })).room s m ([.ref h, .ref (ad 1), .ref (ad 2), .long a0] : List Value).toArray below meth c H locs 0 0 (MQ below (mQv D cl ci h ad cA A res) ([.ref h, .ref (ad 1), .ref (ad 2), .long a0] : List Value).toArray s 0 0 A) (F0 m 12 ls [])) ∧ (∀ (v5 : Int32) (σ : pM) (H : Heap) (locs : List Loc), va_P D cl (mw ci h ad cA σ) H → va_D A (mw ci h ad cA σ) → va_S A s.heap H locs → ∀ (ls : Array Slot), lv_has ls 7 [(0, .ref h), (1, .ref (ad 1)), (5, .int v5)] → (lfX1_times_1_2 K k).2.2 v5 σ = some res → W p l e (headSpec (ws_ yX1_times cX1_times 7 (none)) ({ frames := 0, cells := 0, slots := 0, locals := 0 })).room s m ([.ref h, .ref (ad 1), .ref (ad 2), .long a0] : List Value).toArray below meth c H locs 0 0 (MQ below (mQv D cl ci h ad cA A res) ([.ref h, .ref (ad 1), .ref (ad 2), .long a0] : List Value).toArray s 0 0 A) (F0 m 74 ls [])) := by
  intro k
  induction k with
  | zero =>
    exact ⟨fun _ _ _ _ _ _ _ _ _ _ hf => (by cases hf), fun _ _ _ _ _ _ _ _ _ _ _ hf => (by cases hf), fun _ _ _ _ _ _ _ _ _ hf => (by cases hf)⟩
  | succ k ih =>
    refine ⟨?_, ?_, ?_⟩
    · intro v3 v5 σ H locs hP hD hS ls hl hf
      have hf : (if (2 : Int32) ≤ v5 then ((lfX1_times_1_2 K k).2.2 0 σ) else ((lfX1_times_1_2 K k).2.1 v3 v5 0 σ) : Option pM) = some res := hf
      refine lv_iload hx hb dX1_times_3 (lv_at hl 4 rfl) ?_
      refine lv_iconst (v := 2) hx hb dX1_times_5 (by decide) ?_
      refine lv_icmp_ge (tgt := 71) hx hb dX1_times_6 (by decide) (fun c6 => ?_) (fun c6 => ?_)
      · have hf := dz_t c6 hf
        refine lv_iconst (v := 0) hx hb dX1_times_71 (by decide) ?_
        refine lv_istore (lv' := [(5, .int 0), (0, .ref h), (1, .ref (ad 1)), (2, .ref (ad 2)), (3, .long v3)]) hx hb dX1_times_72 hl (by decide) rfl (fun ls hl => ?_)
        exact ih.2.2 0 σ H locs hP hD hS ls (lv_sub hl [1, 2, 0] rfl) hf
      · have hf := dz_f c6 hf
        refine lv_iconst (v := 0) hx hb dX1_times_9 (by decide) ?_
        refine lv_istore (lv' := [(6, .int 0), (0, .ref h), (1, .ref (ad 1)), (2, .ref (ad 2)), (3, .long v3), (5, .int v5)]) hx hb dX1_times_10 hl (by decide) rfl (fun ls hl => ?_)
        exact ih.2.1 v3 v5 0 σ H locs hP hD hS ls (lv_sub hl [1, 2, 3, 4, 5, 0] rfl) hf
    · intro v3 v5 v6 σ H locs hP hD hS ls hl hf
      have hf : (if (2 : Int32) ≤ v6 then (dz_l (v5 + 1) fun x1 => (lfX1_times_1_2 K k).1 v3 x1 σ) else (dz_l (2 * v5) fun x2 => if ¬ (x2 < 0 ∨ 4 ≤ Int32.toNatClampNeg x2) then (dz_l (σ.2.2.2 1 (Int32.toNatClampNeg x2)) fun x4 => if ¬ (v6 < 0 ∨ 4 ≤ Int32.toNatClampNeg v6) then (dz_l (σ.2.2.2 2 (Int32.toNatClampNeg v6)) fun x6 => dz_l ((2 * v5) + 1) fun x7 => if ¬ (x7 < 0 ∨ 4 ≤ Int32.toNatClampNeg x7) then (dz_l (σ.2.2.2 1 (Int32.toNatClampNeg x7)) fun x9 => dz_l (2 + v6) fun x10 => if ¬ (x10 < 0 ∨ 4 ≤ Int32.toNatClampNeg x10) then (dz_l (σ.2.2.2 2 (Int32.toNatClampNeg x10)) fun x12 => if ¬ v3 = 0 then (dz_l (((x4 * x6) + (x9 * x12)) - ((x4 * x6) + (x9 * x12)) / v3 * v3) fun x14 => if ¬ (((2 * v5) + v6) < 0 ∨ 4 ≤ Int32.toNatClampNeg ((2 * v5) + v6)) then (dz_l (mJ σ 3 (Int32.toNatClampNeg ((2 * v5) + v6)) x14) fun s16 => dz_l (v6 + 1) fun x17 => (lfX1_times_1_2 K k).2.1 v3 v5 x17 s16) else none) else none) else none) else none) else none) else none) : Option pM) = some res := hf
      refine lv_iload hx hb dX1_times_12 (lv_at hl 5 rfl) ?_
      refine lv_iconst (v := 2) hx hb dX1_times_14 (by decide) ?_
      refine lv_icmp_ge (tgt := 65) hx hb dX1_times_15 (by decide) (fun c15 => ?_) (fun c15 => ?_)
      · have hf := dz_t c15 hf
        obtain ⟨x1, e_x1, hf⟩ := dz_lo hf
        refine lv_iinc (v := x1) (lv' := [(5, .int x1), (0, .ref h), (1, .ref (ad 1)), (2, .ref (ad 2)), (3, .long v3), (6, .int v6)]) hx hb dX1_times_65 hl (k := 4) rfl (by rw [e_x1]; rfl) (by decide) rfl (fun ls hl => ?_)
        refine lv_goto (tgt := 3) hx hb dX1_times_68 (by decide) ?_
        exact ih.1 v3 x1 σ H locs hP hD hS ls (lv_sub hl [1, 2, 3, 4, 0] rfl) hf
      · have hf := dz_f c15 hf
        refine lv_aload_n hx hb dX1_times_18 rfl (lv_at hl 0 rfl) ?_
        refine va_get (C := RX1) (T := TX1) (N := 35) (fs := mwF ad σ) (v := .ref (ad 3)) hx hb hts in_X1 hown hK hP 0 rfl hci 3 (by decide) (hts _ q1674) (fun _ hq => hq) rfl dX1_times_19 ?_
        refine lv_iconst (v := 2) hx hb dX1_times_22 (by decide) ?_
        refine lv_iload hx hb dX1_times_23 (lv_at hl 4 rfl) ?_
        refine lv_imul hx hb dX1_times_25 ?_
        refine lv_iload hx hb dX1_times_26 (lv_at hl 5 rfl) ?_
        refine lv_iadd hx hb dX1_times_28 ?_
        refine lv_aload_n hx hb dX1_times_29 rfl (lv_at hl 1 rfl) ?_
        refine lv_iconst (v := 2) hx hb dX1_times_30 (by decide) ?_
        refine lv_iload hx hb dX1_times_31 (lv_at hl 4 rfl) ?_
        refine lv_imul hx hb dX1_times_33 ?_
        refine lv_topi (fun x2 e_x2 => ?_)
        have hf := dz_ls e_x2 hf
        obtain ⟨g3, hf⟩ := dz_go hf
        refine va_lald hx hb hK hP 1 1 rfl rfl g3 dX1_times_34 ?_
        refine lv_topl (fun x4 e_x4 => ?_)
        have hf := dz_ls e_x4 hf
        refine lv_aload_n hx hb dX1_times_35 rfl (lv_at hl 2 rfl) ?_
        refine lv_iload hx hb dX1_times_36 (lv_at hl 5 rfl) ?_
        obtain ⟨g5, hf⟩ := dz_go hf
        refine va_lald hx hb hK hP 2 1 rfl rfl g5 dX1_times_38 ?_
        refine lv_topl (fun x6 e_x6 => ?_)
        have hf := dz_ls e_x6 hf
        refine lv_lmul hx hb dX1_times_39 ?_
        refine lv_aload_n hx hb dX1_times_40 rfl (lv_at hl 1 rfl) ?_
        refine lv_iconst (v := 2) hx hb dX1_times_41 (by decide) ?_
        refine lv_iload hx hb dX1_times_42 (lv_at hl 4 rfl) ?_
        refine lv_imul hx hb dX1_times_44 ?_
        refine lv_iconst (v := 1) hx hb dX1_times_45 (by decide) ?_
        refine lv_iadd hx hb dX1_times_46 ?_
        refine lv_topi (fun x7 e_x7 => ?_)
        have hf := dz_ls e_x7 hf
        obtain ⟨g8, hf⟩ := dz_go hf
        refine va_lald hx hb hK hP 1 1 rfl rfl g8 dX1_times_47 ?_
        refine lv_topl (fun x9 e_x9 => ?_)
        have hf := dz_ls e_x9 hf
        refine lv_aload_n hx hb dX1_times_48 rfl (lv_at hl 2 rfl) ?_
        refine lv_iconst (v := 2) hx hb dX1_times_49 (by decide) ?_
        refine lv_iload hx hb dX1_times_50 (lv_at hl 5 rfl) ?_
        refine lv_iadd hx hb dX1_times_52 ?_
        refine lv_topi (fun x10 e_x10 => ?_)
        have hf := dz_ls e_x10 hf
        obtain ⟨g11, hf⟩ := dz_go hf
        refine va_lald hx hb hK hP 2 1 rfl rfl g11 dX1_times_53 ?_
        refine lv_topl (fun x12 e_x12 => ?_)
        have hf := dz_ls e_x12 hf
        refine lv_lmul hx hb dX1_times_54 ?_
        refine lv_ladd hx hb dX1_times_55 ?_
        refine lv_lload_n hx hb dX1_times_56 rfl (lv_at hl 3 rfl) ?_
        obtain ⟨g13, hf⟩ := dz_go hf
        refine lv_lrem hx hb dX1_times_57 g13 ?_
        refine lv_topl (fun x14 e_x14 => ?_)
        have hf := dz_ls e_x14 hf
        obtain ⟨g15, hf⟩ := dz_go hf
        refine va_last hx hb hK hP hD hS 3 1 rfl rfl g15 dX1_times_58 (fun H locs hP1 _ hS => ?_)
        obtain ⟨s16, e_s16, hf⟩ := dz_lo hf
        have hP : va_P D cl (mw ci h ad cA s16) H := by rw [e_s16]; exact hP1
        clear hP1; replace hD := mw_D s16 hD
        obtain ⟨x17, e_x17, hf⟩ := dz_lo hf
        refine lv_iinc (v := x17) (lv' := [(6, .int x17), (0, .ref h), (1, .ref (ad 1)), (2, .ref (ad 2)), (3, .long v3), (5, .int v5)]) hx hb dX1_times_59 hl (k := 5) rfl (by rw [e_x17]; rfl) (by decide) rfl (fun ls hl => ?_)
        refine lv_goto (tgt := 12) hx hb dX1_times_62 (by decide) ?_
        exact ih.2.1 v3 v5 x17 s16 H locs hP hD hS ls (lv_sub hl [1, 2, 3, 4, 5, 0] rfl) hf
    · intro v5 σ H locs hP hD hS ls hl hf
      have hf : (if (4 : Int32) ≤ v5 then (some σ) else (if ¬ (v5 < 0 ∨ 4 ≤ Int32.toNatClampNeg v5) then (dz_l (σ.2.2.2 3 (Int32.toNatClampNeg v5)) fun x2 => if ¬ (v5 < 0 ∨ 4 ≤ Int32.toNatClampNeg v5) then (dz_l (mJ σ 1 (Int32.toNatClampNeg v5) x2) fun s4 => dz_l (v5 + 1) fun x5 => (lfX1_times_1_2 K k).2.2 x5 s4) else none) else none) : Option pM) = some res := hf
      refine lv_iload hx hb dX1_times_74 (lv_at hl 2 rfl) ?_
      refine lv_iconst (v := 4) hx hb dX1_times_76 (by decide) ?_
      refine lv_icmp_ge (tgt := 97) hx hb dX1_times_77 (by decide) (fun c77 => ?_) (fun c77 => ?_)
      · have hf := dz_t c77 hf
        exact W.vret hx hb hr (fun t ht hW => ⟨⟨σ, rfl, Option.some.inj hf, by rw [ht]; exact hP, va_K.moved hW.alike hK, hD⟩, hS.F ht⟩) hS.2.2 dX1_times_97
      · have hf := dz_f c77 hf
        refine lv_aload_n hx hb dX1_times_80 rfl (lv_at hl 1 rfl) ?_
        refine lv_iload hx hb dX1_times_81 (lv_at hl 2 rfl) ?_
        refine lv_aload_n hx hb dX1_times_83 rfl (lv_at hl 0 rfl) ?_
        refine va_get (C := RX1) (T := TX1) (N := 35) (fs := mwF ad σ) (v := .ref (ad 3)) hx hb hts in_X1 hown hK hP 0 rfl hci 3 (by decide) (hts _ q1674) (fun _ hq => hq) rfl dX1_times_84 ?_
        refine lv_iload hx hb dX1_times_87 (lv_at hl 2 rfl) ?_
        obtain ⟨g1, hf⟩ := dz_go hf
        refine va_lald hx hb hK hP 3 1 rfl rfl g1 dX1_times_89 ?_
        refine lv_topl (fun x2 e_x2 => ?_)
        have hf := dz_ls e_x2 hf
        obtain ⟨g3, hf⟩ := dz_go hf
        refine va_last hx hb hK hP hD hS 1 1 rfl rfl g3 dX1_times_90 (fun H locs hP1 _ hS => ?_)
        obtain ⟨s4, e_s4, hf⟩ := dz_lo hf
        have hP : va_P D cl (mw ci h ad cA s4) H := by rw [e_s4]; exact hP1
        clear hP1; replace hD := mw_D s4 hD
        obtain ⟨x5, e_x5, hf⟩ := dz_lo hf
        refine lv_iinc (v := x5) (lv' := [(5, .int x5), (0, .ref h), (1, .ref (ad 1))]) hx hb dX1_times_91 hl (k := 2) rfl (by rw [e_x5]; rfl) (by decide) rfl (fun ls hl => ?_)
        refine lv_goto (tgt := 74) hx hb dX1_times_94 (by decide) ?_
        exact ih.2.2 x5 s4 H locs hP hD hS ls (lv_sub hl [1, 2, 0] rfl) hf
set_option maxHeartbeats 4000000 in
set_option maxRecDepth 100000 in
theorem mtX1_times_1_2 (l : Launch) (D : va_G) (cl : List vw_C) (ci : Nat) (hci : cl[ci]? = some (RX1, TX1, 35)) (h : Nat) (ad : Nat → Nat) (cA : Nat → ClassId) (sz : Nat) (σ : pM) (a0 : Int64) (K : Nat) (res : pM) (hf : fnX1_times_1_2 K a0 σ = some res) : Met l yX1_times (ws_ yX1_times cX1_times 7 (none)) ({ frames := 0, cells := 0, slots := 0, locals := 0 }) (mPc D cl ci h ad cA sz σ [.ref h, .ref (ad 1), .ref (ad 2), .long a0]) (mQv D cl ci h ad cA (va_A (mw ci h ad cA σ) sz) res) 0 0 (va_A (mw ci h ad cA σ) sz) := by
  refine Met.ofW (cc := cX1_times) (maxL := 7) (ret := none) (by decide +kernel) rfl ?_
  intro p e s m args below meth c s₁ B hml hv
  obtain ⟨rfl, hsz, hP, hK, hD0⟩ := hv
  have hx := B.exec
  have hb := B.bytes
  have hr := B.returns
  have hts := atoms_spec (ws := ws_ yX1_times cX1_times 7 (none)) B.pre
  have hts : ∀ w ∈ lw_all, w.before _ s = true := fun w h => hts w (List.mem_cons_of_mem _ h)
  have hown : s.vm.findClass RX1 = some m.cls := findClass_of_methodNamed B.named
  have hlocks := B.notSynchronized
  subst hsz
  have hD := hD0.self (sz := s.heap.size)
  generalize hAe : va_A (mw ci h ad cA σ) s.heap.size = A at hD ⊢
  have hA : ∀ q : Nat, s.heap.size ≤ q → A q := fun q h => by rw [← hAe]; exact Or.inr h
  clear hAe hD0
  have hS : va_S A s.heap s.heap [] := va_S.rf
  generalize hHe : s.heap = H at hP hS ⊢
  have hS : va_S A s.heap H [] := by rw [hHe]; exact hS
  generalize ([] : List Loc) = locs at hS ⊢
  have hl := lv_entry ([.ref h, .ref (ad 1), .ref (ad 2), .long a0]) (n := 7) (Nat.le_of_ble_eq_true rfl)
  rw [lg_entry_eq]
  generalize (lg_sl ([.ref h, .ref (ad 1), .ref (ad 2), .long a0]) ++ List.replicate (7 - (lg_sl ([.ref h, .ref (ad 1), .ref (ad 2), .long a0])).length) Slot.unset).toArray = ls at hl ⊢
  have hl : lv_has ls 7 [(0, .ref h), (1, .ref (ad 1)), (2, .ref (ad 2)), (3, .long a0)] := hl
  have hf : ((lfX1_times_1_2 K K).1 a0 0 σ : Option pM) = some res := hf
  have ih := wlX1_times_1_2 (l := l) (e := e) (below := below) (h := h) (ad := ad) (cA := cA) hci hA hK K res a0 hx hb hr hlocks hml hown hts K
  refine lv_iconst (v := 0) hx hb dX1_times_0 (by decide) ?_
  refine lv_istore (lv' := [(5, .int 0), (0, .ref h), (1, .ref (ad 1)), (2, .ref (ad 2)), (3, .long a0)]) hx hb dX1_times_1 hl (by decide) rfl (fun ls hl => ?_)
  exact ih.1 a0 0 σ H locs hP hD hS ls (lv_sub hl [1, 2, 3, 4, 0] rfl) hf

noncomputable def lfX1_times_2_2 (K : Nat) : Nat → (Int64 → Int32 → pM → Option pM) × (Int64 → Int32 → Int32 → pM → Option pM) × (Int32 → pM → Option pM) := Nat.rec (motive := fun _ => (Int64 → Int32 → pM → Option pM) × (Int64 → Int32 → Int32 → pM → Option pM) × (Int32 → pM → Option pM)) ((fun _ _ _ => none), (fun _ _ _ _ => none), (fun _ _ => none)) (fun _ G => ((fun v3 v5 σ => if (2 : Int32) ≤ v5 then (G.2.2 0 σ) else (G.2.1 v3 v5 0 σ)), (fun v3 v5 v6 σ => if (2 : Int32) ≤ v6 then (dz_l (v5 + 1) fun x1 => G.1 v3 x1 σ) else (dz_l (2 * v5) fun x2 => if ¬ (x2 < 0 ∨ 4 ≤ Int32.toNatClampNeg x2) then (dz_l (σ.2.2.2 2 (Int32.toNatClampNeg x2)) fun x4 => if ¬ (v6 < 0 ∨ 4 ≤ Int32.toNatClampNeg v6) then (dz_l (σ.2.2.2 2 (Int32.toNatClampNeg v6)) fun x6 => dz_l ((2 * v5) + 1) fun x7 => if ¬ (x7 < 0 ∨ 4 ≤ Int32.toNatClampNeg x7) then (dz_l (σ.2.2.2 2 (Int32.toNatClampNeg x7)) fun x9 => dz_l (2 + v6) fun x10 => if ¬ (x10 < 0 ∨ 4 ≤ Int32.toNatClampNeg x10) then (dz_l (σ.2.2.2 2 (Int32.toNatClampNeg x10)) fun x12 => if ¬ v3 = 0 then (dz_l (((x4 * x6) + (x9 * x12)) - ((x4 * x6) + (x9 * x12)) / v3 * v3) fun x14 => if ¬ (((2 * v5) + v6) < 0 ∨ 4 ≤ Int32.toNatClampNeg ((2 * v5) + v6)) then (dz_l (mJ σ 3 (Int32.toNatClampNeg ((2 * v5) + v6)) x14) fun s16 => dz_l (v6 + 1) fun x17 => G.2.1 v3 v5 x17 s16) else none) else none) else none) else none) else none) else none)), (fun v5 σ => if (4 : Int32) ≤ v5 then (some σ) else (if ¬ (v5 < 0 ∨ 4 ≤ Int32.toNatClampNeg v5) then (dz_l (σ.2.2.2 3 (Int32.toNatClampNeg v5)) fun x2 => if ¬ (v5 < 0 ∨ 4 ≤ Int32.toNatClampNeg v5) then (dz_l (mJ σ 2 (Int32.toNatClampNeg v5) x2) fun s4 => dz_l (v5 + 1) fun x5 => G.2.2 x5 s4) else none) else none))))
noncomputable def fnX1_times_2_2 (K : Nat) (a0 : Int64) (σ : pM) : Option pM := (lfX1_times_2_2 K K).1 a0 0 σ
set_option maxHeartbeats 4000000 in
set_option maxRecDepth 100000 in
theorem wlX1_times_2_2 {p : Program} {l : Launch} {e : Env} {s : State} {m : MethodId} {below : List Frame} {meth : Method} {c : Code} {D : va_G} {cl : List vw_C} {ci : Nat} (hci : cl[ci]? = some (RX1, TX1, 35)) {h : Nat} {ad : Nat → Nat} {cA : Nat → ClassId} {A : Nat → Prop} (hA : ∀ q : Nat, s.heap.size ≤ q → A q) (hK : va_K D cl (mtys cA) s) (K : Nat) (res : pM) (a0 : Int64) (hx : p.tables.exec = Jvm.exec) (hb : c.code = cX1_times) (hr : meth.sig.returnType = none) (hlocks : meth.locks = false) (hml : c.maxLocals = 7) (hown : s.vm.findClass RX1 = some m.cls) (hts : ∀ w ∈ lw_all, w.before ([.ref h, .ref (ad 2), .ref (ad 2), .long a0] : List Value).toArray s = true) : ∀ k : Nat, (∀ (v3 : Int64) (v5 : Int32) (σ : pM) (H : Heap) (locs : List Loc), va_P D cl (mw ci h ad cA σ) H → va_D A (mw ci h ad cA σ) → va_S A s.heap H locs → ∀ (ls : Array Slot), lv_has ls 7 [(0, .ref h), (1, .ref (ad 2)), (2, .ref (ad 2)), (3, .long v3), (5, .int v5)] → (lfX1_times_2_2 K k).1 v3 v5 σ = some res → W p l e (headSpec (ws_ yX1_times cX1_times 7 (none)) ({ frames := 0, cells := 0, slots := 0, locals := 0 })).room s m ([.ref h, .ref (ad 2), .ref (ad 2), .long a0] : List Value).toArray below meth c H locs 0 0 (MQ below (mQv D cl ci h ad cA A res) ([.ref h, .ref (ad 2), .ref (ad 2), .long a0] : List Value).toArray s 0 0 A) (F0 m 3 ls [])) ∧ (∀ (v3 : Int64) (v5 : Int32) (v6 : Int32) (σ : pM) (H : Heap) (locs : List Loc), va_P D cl (mw ci h ad cA σ) H → va_D A (mw ci h ad cA σ) → va_S A s.heap H locs → ∀ (ls : Array Slot), lv_has ls 7 [(0, .ref h), (1, .ref (ad 2)), (2, .ref (ad 2)), (3, .long v3), (5, .int v5), (6, .int v6)] → (lfX1_times_2_2 K k).2.1 v3 v5 v6 σ = some res → W p l e (headSpec (ws_ yX1_times cX1_times 7 (none)) ({ frames := 0, cells := 0, slots := 0, locals := 0 })).room s m ([.ref h, .ref (ad 2), .ref (ad 2), .long a0] : List Value).toArray below meth c H locs 0 0 (MQ below (mQv D cl ci h ad cA A res) ([.ref h, .ref (ad 2), .ref (ad 2), .long a0] : List Value).toArray s 0 0 A) (F0 m 12 ls [])) ∧ (∀ (v5 : Int32) (σ : pM) (H : Heap) (locs : List Loc), va_P D cl (mw ci h ad cA σ) H → va_D A (mw ci h ad cA σ) → va_S A s.heap H locs → ∀ (ls : Array Slot), lv_has ls 7 [(0, .ref h), (1, .ref (ad 2)), (5, .int v5)] → (lfX1_times_2_2 K k).2.2 v5 σ = some res → W p l e (headSpec (ws_ yX1_times cX1_times 7 (none)) ({ frames := 0, cells := 0, slots := 0, locals := 0 })).room s m ([.ref h, .ref (ad 2), .ref (ad 2), .long a0] : List Value).toArray below meth c H locs 0 0 (MQ below (mQv D cl ci h ad cA A res) ([.ref h, .ref (ad 2), .ref (ad 2), .long a0] : List Value).toArray s 0 0 A) (F0 m 74 ls [])) := by
  intro k
  induction k with
  | zero =>
    exact ⟨fun _ _ _ _ _ _ _ _ _ _ hf => (by cases hf), fun _ _ _ _ _ _ _ _ _ _ _ hf => (by cases hf), fun _ _ _ _ _ _ _ _ _ hf => (by cases hf)⟩
  | succ k ih =>
    refine ⟨?_, ?_, ?_⟩
    · intro v3 v5 σ H locs hP hD hS ls hl hf
      have hf : (if (2 : Int32) ≤ v5 then ((lfX1_times_2_2 K k).2.2 0 σ) else ((lfX1_times_2_2 K k).2.1 v3 v5 0 σ) : Option pM) = some res := hf
      refine lv_iload hx hb dX1_times_3 (lv_at hl 4 rfl) ?_
      refine lv_iconst (v := 2) hx hb dX1_times_5 (by decide) ?_
      refine lv_icmp_ge (tgt := 71) hx hb dX1_times_6 (by decide) (fun c6 => ?_) (fun c6 => ?_)
      · have hf := dz_t c6 hf
        refine lv_iconst (v := 0) hx hb dX1_times_71 (by decide) ?_
        refine lv_istore (lv' := [(5, .int 0), (0, .ref h), (1, .ref (ad 2)), (2, .ref (ad 2)), (3, .long v3)]) hx hb dX1_times_72 hl (by decide) rfl (fun ls hl => ?_)
        exact ih.2.2 0 σ H locs hP hD hS ls (lv_sub hl [1, 2, 0] rfl) hf
      · have hf := dz_f c6 hf
        refine lv_iconst (v := 0) hx hb dX1_times_9 (by decide) ?_
        refine lv_istore (lv' := [(6, .int 0), (0, .ref h), (1, .ref (ad 2)), (2, .ref (ad 2)), (3, .long v3), (5, .int v5)]) hx hb dX1_times_10 hl (by decide) rfl (fun ls hl => ?_)
        exact ih.2.1 v3 v5 0 σ H locs hP hD hS ls (lv_sub hl [1, 2, 3, 4, 5, 0] rfl) hf
    · intro v3 v5 v6 σ H locs hP hD hS ls hl hf
      have hf : (if (2 : Int32) ≤ v6 then (dz_l (v5 + 1) fun x1 => (lfX1_times_2_2 K k).1 v3 x1 σ) else (dz_l (2 * v5) fun x2 => if ¬ (x2 < 0 ∨ 4 ≤ Int32.toNatClampNeg x2) then (dz_l (σ.2.2.2 2 (Int32.toNatClampNeg x2)) fun x4 => if ¬ (v6 < 0 ∨ 4 ≤ Int32.toNatClampNeg v6) then (dz_l (σ.2.2.2 2 (Int32.toNatClampNeg v6)) fun x6 => dz_l ((2 * v5) + 1) fun x7 => if ¬ (x7 < 0 ∨ 4 ≤ Int32.toNatClampNeg x7) then (dz_l (σ.2.2.2 2 (Int32.toNatClampNeg x7)) fun x9 => dz_l (2 + v6) fun x10 => if ¬ (x10 < 0 ∨ 4 ≤ Int32.toNatClampNeg x10) then (dz_l (σ.2.2.2 2 (Int32.toNatClampNeg x10)) fun x12 => if ¬ v3 = 0 then (dz_l (((x4 * x6) + (x9 * x12)) - ((x4 * x6) + (x9 * x12)) / v3 * v3) fun x14 => if ¬ (((2 * v5) + v6) < 0 ∨ 4 ≤ Int32.toNatClampNeg ((2 * v5) + v6)) then (dz_l (mJ σ 3 (Int32.toNatClampNeg ((2 * v5) + v6)) x14) fun s16 => dz_l (v6 + 1) fun x17 => (lfX1_times_2_2 K k).2.1 v3 v5 x17 s16) else none) else none) else none) else none) else none) else none) : Option pM) = some res := hf
      refine lv_iload hx hb dX1_times_12 (lv_at hl 5 rfl) ?_
      refine lv_iconst (v := 2) hx hb dX1_times_14 (by decide) ?_
      refine lv_icmp_ge (tgt := 65) hx hb dX1_times_15 (by decide) (fun c15 => ?_) (fun c15 => ?_)
      · have hf := dz_t c15 hf
        obtain ⟨x1, e_x1, hf⟩ := dz_lo hf
        refine lv_iinc (v := x1) (lv' := [(5, .int x1), (0, .ref h), (1, .ref (ad 2)), (2, .ref (ad 2)), (3, .long v3), (6, .int v6)]) hx hb dX1_times_65 hl (k := 4) rfl (by rw [e_x1]; rfl) (by decide) rfl (fun ls hl => ?_)
        refine lv_goto (tgt := 3) hx hb dX1_times_68 (by decide) ?_
        exact ih.1 v3 x1 σ H locs hP hD hS ls (lv_sub hl [1, 2, 3, 4, 0] rfl) hf
      · have hf := dz_f c15 hf
        refine lv_aload_n hx hb dX1_times_18 rfl (lv_at hl 0 rfl) ?_
        refine va_get (C := RX1) (T := TX1) (N := 35) (fs := mwF ad σ) (v := .ref (ad 3)) hx hb hts in_X1 hown hK hP 0 rfl hci 3 (by decide) (hts _ q1674) (fun _ hq => hq) rfl dX1_times_19 ?_
        refine lv_iconst (v := 2) hx hb dX1_times_22 (by decide) ?_
        refine lv_iload hx hb dX1_times_23 (lv_at hl 4 rfl) ?_
        refine lv_imul hx hb dX1_times_25 ?_
        refine lv_iload hx hb dX1_times_26 (lv_at hl 5 rfl) ?_
        refine lv_iadd hx hb dX1_times_28 ?_
        refine lv_aload_n hx hb dX1_times_29 rfl (lv_at hl 1 rfl) ?_
        refine lv_iconst (v := 2) hx hb dX1_times_30 (by decide) ?_
        refine lv_iload hx hb dX1_times_31 (lv_at hl 4 rfl) ?_
        refine lv_imul hx hb dX1_times_33 ?_
        refine lv_topi (fun x2 e_x2 => ?_)
        have hf := dz_ls e_x2 hf
        obtain ⟨g3, hf⟩ := dz_go hf
        refine va_lald hx hb hK hP 2 1 rfl rfl g3 dX1_times_34 ?_
        refine lv_topl (fun x4 e_x4 => ?_)
        have hf := dz_ls e_x4 hf
        refine lv_aload_n hx hb dX1_times_35 rfl (lv_at hl 2 rfl) ?_
        refine lv_iload hx hb dX1_times_36 (lv_at hl 5 rfl) ?_
        obtain ⟨g5, hf⟩ := dz_go hf
        refine va_lald hx hb hK hP 2 1 rfl rfl g5 dX1_times_38 ?_
        refine lv_topl (fun x6 e_x6 => ?_)
        have hf := dz_ls e_x6 hf
        refine lv_lmul hx hb dX1_times_39 ?_
        refine lv_aload_n hx hb dX1_times_40 rfl (lv_at hl 1 rfl) ?_
        refine lv_iconst (v := 2) hx hb dX1_times_41 (by decide) ?_
        refine lv_iload hx hb dX1_times_42 (lv_at hl 4 rfl) ?_
        refine lv_imul hx hb dX1_times_44 ?_
        refine lv_iconst (v := 1) hx hb dX1_times_45 (by decide) ?_
        refine lv_iadd hx hb dX1_times_46 ?_
        refine lv_topi (fun x7 e_x7 => ?_)
        have hf := dz_ls e_x7 hf
        obtain ⟨g8, hf⟩ := dz_go hf
        refine va_lald hx hb hK hP 2 1 rfl rfl g8 dX1_times_47 ?_
        refine lv_topl (fun x9 e_x9 => ?_)
        have hf := dz_ls e_x9 hf
        refine lv_aload_n hx hb dX1_times_48 rfl (lv_at hl 2 rfl) ?_
        refine lv_iconst (v := 2) hx hb dX1_times_49 (by decide) ?_
        refine lv_iload hx hb dX1_times_50 (lv_at hl 5 rfl) ?_
        refine lv_iadd hx hb dX1_times_52 ?_
        refine lv_topi (fun x10 e_x10 => ?_)
        have hf := dz_ls e_x10 hf
        obtain ⟨g11, hf⟩ := dz_go hf
        refine va_lald hx hb hK hP 2 1 rfl rfl g11 dX1_times_53 ?_
        refine lv_topl (fun x12 e_x12 => ?_)
        have hf := dz_ls e_x12 hf
        refine lv_lmul hx hb dX1_times_54 ?_
        refine lv_ladd hx hb dX1_times_55 ?_
        refine lv_lload_n hx hb dX1_times_56 rfl (lv_at hl 3 rfl) ?_
        obtain ⟨g13, hf⟩ := dz_go hf
        refine lv_lrem hx hb dX1_times_57 g13 ?_
        refine lv_topl (fun x14 e_x14 => ?_)
        have hf := dz_ls e_x14 hf
        obtain ⟨g15, hf⟩ := dz_go hf
        refine va_last hx hb hK hP hD hS 3 1 rfl rfl g15 dX1_times_58 (fun H locs hP1 _ hS => ?_)
        obtain ⟨s16, e_s16, hf⟩ := dz_lo hf
        have hP : va_P D cl (mw ci h ad cA s16) H := by rw [e_s16]; exact hP1
        clear hP1; replace hD := mw_D s16 hD
        obtain ⟨x17, e_x17, hf⟩ := dz_lo hf
        refine lv_iinc (v := x17) (lv' := [(6, .int x17), (0, .ref h), (1, .ref (ad 2)), (2, .ref (ad 2)), (3, .long v3), (5, .int v5)]) hx hb dX1_times_59 hl (k := 5) rfl (by rw [e_x17]; rfl) (by decide) rfl (fun ls hl => ?_)
        refine lv_goto (tgt := 12) hx hb dX1_times_62 (by decide) ?_
        exact ih.2.1 v3 v5 x17 s16 H locs hP hD hS ls (lv_sub hl [1, 2, 3, 4, 5, 0] rfl) hf
    · intro v5 σ H locs hP hD hS ls hl hf
      have hf : (if (4 : Int32) ≤ v5 then (some σ) else (if ¬ (v5 < 0 ∨ 4 ≤ Int32.toNatClampNeg v5) then (dz_l (σ.2.2.2 3 (Int32.toNatClampNeg v5)) fun x2 => if ¬ (v5 < 0 ∨ 4 ≤ Int32.toNatClampNeg v5) then (dz_l (mJ σ 2 (Int32.toNatClampNeg v5) x2) fun s4 => dz_l (v5 + 1) fun x5 => (lfX1_times_2_2 K k).2.2 x5 s4) else none) else none) : Option pM) = some res := hf
      refine lv_iload hx hb dX1_times_74 (lv_at hl 2 rfl) ?_
      refine lv_iconst (v := 4) hx hb dX1_times_76 (by decide) ?_
      refine lv_icmp_ge (tgt := 97) hx hb dX1_times_77 (by decide) (fun c77 => ?_) (fun c77 => ?_)
      · have hf := dz_t c77 hf
        exact W.vret hx hb hr (fun t ht hW => ⟨⟨σ, rfl, Option.some.inj hf, by rw [ht]; exact hP, va_K.moved hW.alike hK, hD⟩, hS.F ht⟩) hS.2.2 dX1_times_97
      · have hf := dz_f c77 hf
        refine lv_aload_n hx hb dX1_times_80 rfl (lv_at hl 1 rfl) ?_
        refine lv_iload hx hb dX1_times_81 (lv_at hl 2 rfl) ?_
        refine lv_aload_n hx hb dX1_times_83 rfl (lv_at hl 0 rfl) ?_
        refine va_get (C := RX1) (T := TX1) (N := 35) (fs := mwF ad σ) (v := .ref (ad 3)) hx hb hts in_X1 hown hK hP 0 rfl hci 3 (by decide) (hts _ q1674) (fun _ hq => hq) rfl dX1_times_84 ?_
        refine lv_iload hx hb dX1_times_87 (lv_at hl 2 rfl) ?_
        obtain ⟨g1, hf⟩ := dz_go hf
        refine va_lald hx hb hK hP 3 1 rfl rfl g1 dX1_times_89 ?_
        refine lv_topl (fun x2 e_x2 => ?_)
        have hf := dz_ls e_x2 hf
        obtain ⟨g3, hf⟩ := dz_go hf
        refine va_last hx hb hK hP hD hS 2 1 rfl rfl g3 dX1_times_90 (fun H locs hP1 _ hS => ?_)
        obtain ⟨s4, e_s4, hf⟩ := dz_lo hf
        have hP : va_P D cl (mw ci h ad cA s4) H := by rw [e_s4]; exact hP1
        clear hP1; replace hD := mw_D s4 hD
        obtain ⟨x5, e_x5, hf⟩ := dz_lo hf
        refine lv_iinc (v := x5) (lv' := [(5, .int x5), (0, .ref h), (1, .ref (ad 2))]) hx hb dX1_times_91 hl (k := 2) rfl (by rw [e_x5]; rfl) (by decide) rfl (fun ls hl => ?_)
        refine lv_goto (tgt := 74) hx hb dX1_times_94 (by decide) ?_
        exact ih.2.2 x5 s4 H locs hP hD hS ls (lv_sub hl [1, 2, 0] rfl) hf
set_option maxHeartbeats 4000000 in
set_option maxRecDepth 100000 in
theorem mtX1_times_2_2 (l : Launch) (D : va_G) (cl : List vw_C) (ci : Nat) (hci : cl[ci]? = some (RX1, TX1, 35)) (h : Nat) (ad : Nat → Nat) (cA : Nat → ClassId) (sz : Nat) (σ : pM) (a0 : Int64) (K : Nat) (res : pM) (hf : fnX1_times_2_2 K a0 σ = some res) : Met l yX1_times (ws_ yX1_times cX1_times 7 (none)) ({ frames := 0, cells := 0, slots := 0, locals := 0 }) (mPc D cl ci h ad cA sz σ [.ref h, .ref (ad 2), .ref (ad 2), .long a0]) (mQv D cl ci h ad cA (va_A (mw ci h ad cA σ) sz) res) 0 0 (va_A (mw ci h ad cA σ) sz) := by
  refine Met.ofW (cc := cX1_times) (maxL := 7) (ret := none) (by decide +kernel) rfl ?_
  intro p e s m args below meth c s₁ B hml hv
  obtain ⟨rfl, hsz, hP, hK, hD0⟩ := hv
  have hx := B.exec
  have hb := B.bytes
  have hr := B.returns
  have hts := atoms_spec (ws := ws_ yX1_times cX1_times 7 (none)) B.pre
  have hts : ∀ w ∈ lw_all, w.before _ s = true := fun w h => hts w (List.mem_cons_of_mem _ h)
  have hown : s.vm.findClass RX1 = some m.cls := findClass_of_methodNamed B.named
  have hlocks := B.notSynchronized
  subst hsz
  have hD := hD0.self (sz := s.heap.size)
  generalize hAe : va_A (mw ci h ad cA σ) s.heap.size = A at hD ⊢
  have hA : ∀ q : Nat, s.heap.size ≤ q → A q := fun q h => by rw [← hAe]; exact Or.inr h
  clear hAe hD0
  have hS : va_S A s.heap s.heap [] := va_S.rf
  generalize hHe : s.heap = H at hP hS ⊢
  have hS : va_S A s.heap H [] := by rw [hHe]; exact hS
  generalize ([] : List Loc) = locs at hS ⊢
  have hl := lv_entry ([.ref h, .ref (ad 2), .ref (ad 2), .long a0]) (n := 7) (Nat.le_of_ble_eq_true rfl)
  rw [lg_entry_eq]
  generalize (lg_sl ([.ref h, .ref (ad 2), .ref (ad 2), .long a0]) ++ List.replicate (7 - (lg_sl ([.ref h, .ref (ad 2), .ref (ad 2), .long a0])).length) Slot.unset).toArray = ls at hl ⊢
  have hl : lv_has ls 7 [(0, .ref h), (1, .ref (ad 2)), (2, .ref (ad 2)), (3, .long a0)] := hl
  have hf : ((lfX1_times_2_2 K K).1 a0 0 σ : Option pM) = some res := hf
  have ih := wlX1_times_2_2 (l := l) (e := e) (below := below) (h := h) (ad := ad) (cA := cA) hci hA hK K res a0 hx hb hr hlocks hml hown hts K
  refine lv_iconst (v := 0) hx hb dX1_times_0 (by decide) ?_
  refine lv_istore (lv' := [(5, .int 0), (0, .ref h), (1, .ref (ad 2)), (2, .ref (ad 2)), (3, .long a0)]) hx hb dX1_times_1 hl (by decide) rfl (fun ls hl => ?_)
  exact ih.1 a0 0 σ H locs hP hD hS ls (lv_sub hl [1, 2, 3, 4, 0] rfl) hf

noncomputable def lfX1_sequence (K : Nat) : Nat → (Int64 → Int64 → pM → Option (Int64 × pM)) × (Int64 → Int64 → pM → Option (Int64 × pM)) := Nat.rec (motive := fun _ => (Int64 → Int64 → pM → Option (Int64 × pM)) × (Int64 → Int64 → pM → Option (Int64 × pM))) ((fun _ _ _ => none), (fun _ _ _ => none)) (fun _ G => ((fun v7 v9 σ => if v9 ≤ (0 : Int64) then (dz_l (σ.2.2.2 1 (Int32.toNatClampNeg 2)) fun x1 => some (x1, σ)) else (if (v9 &&& 1) = (1 : Int64) then (dz_b (fnX1_times_1_2 K v7 σ) fun s3 => G.2 v7 v9 s3) else (G.2 v7 v9 σ))), (fun v7 v9 σ => dz_b (fnX1_times_2_2 K v7 σ) fun s2 => dz_l (v9 >>> (Int32.toInt64 1 &&& 63)) fun x3 => G.1 v7 x3 s2)))
noncomputable def fnX1_sequence (K : Nat) (a0 : Int64) (a1 : Int64) (a2 : Int64) (a3 : Int64) (σ : pM) : Option (Int64 × pM) := if ¬ a3 = 0 then (dz_l (1 - 1 / a3 * a3) fun x2 => dz_l (mJ σ 1 (Int32.toNatClampNeg 0) x2) fun s3 => dz_l (mJ s3 1 (Int32.toNatClampNeg 1) 0) fun s4 => dz_l (mJ s4 1 (Int32.toNatClampNeg 2) 0) fun s5 => if ¬ a3 = 0 then (dz_l (1 - 1 / a3 * a3) fun x7 => dz_l (mJ s5 1 (Int32.toNatClampNeg 3) x7) fun s8 => if ¬ a3 = 0 then (dz_l (a0 - a0 / a3 * a3) fun x10 => dz_l (mJ s8 2 (Int32.toNatClampNeg 0) x10) fun s11 => if ¬ a3 = 0 then (dz_l (a1 - a1 / a3 * a3) fun x13 => if ¬ a3 = 0 then (dz_l ((a3 - x13) - (a3 - x13) / a3 * a3) fun x15 => dz_l (mJ s11 2 (Int32.toNatClampNeg 1) x15) fun s16 => if ¬ a3 = 0 then (dz_l (1 - 1 / a3 * a3) fun x18 => dz_l (mJ s16 2 (Int32.toNatClampNeg 2) x18) fun s19 => dz_l (mJ s19 2 (Int32.toNatClampNeg 3) 0) fun s20 => (lfX1_sequence K K).1 a3 a2 s20) else none) else none) else none) else none) else none) else none
set_option maxHeartbeats 4000000 in
set_option maxRecDepth 100000 in
theorem wlX1_sequence {p : Program} {l : Launch} {e : Env} {s : State} {m : MethodId} {below : List Frame} {meth : Method} {c : Code} {D : va_G} {cl : List vw_C} {ci : Nat} (hci : cl[ci]? = some (RX1, TX1, 35)) {h : Nat} {ad : Nat → Nat} {cA : Nat → ClassId} {A : Nat → Prop} (hA : ∀ q : Nat, s.heap.size ≤ q → A q) (hK : va_K D cl (mtys cA) s) (K : Nat) (res : (Int64 × pM)) (a0 : Int64) (a1 : Int64) (a2 : Int64) (a3 : Int64) (hx : p.tables.exec = Jvm.exec) (hb : c.code = cX1_sequence) (hr : meth.sig.returnType = some .long) (hlocks : meth.locks = false) (hml : c.maxLocals = 11) (hown : s.vm.findClass RX1 = some m.cls) (hts : ∀ w ∈ lw_all, w.before ([.ref h, .long a0, .long a1, .long a2, .long a3] : List Value).toArray s = true) : ∀ k : Nat, (∀ (v7 : Int64) (v9 : Int64) (σ : pM) (H : Heap) (locs : List Loc), va_P D cl (mw ci h ad cA σ) H → va_D A (mw ci h ad cA σ) → va_S A s.heap H locs → ∀ (ls : Array Slot), lv_has ls 11 [(0, .ref h), (7, .long v7), (9, .long v9)] → (lfX1_sequence K k).1 v7 v9 σ = some res → W p l e (headSpec (ws_ yX1_sequence cX1_sequence 11 (some .long)) ({ frames := 1, cells := 0, slots := 0, locals := 26 })).room s m ([.ref h, .long a0, .long a1, .long a2, .long a3] : List Value).toArray below meth c H locs 0 0 (MQ below (mQl D cl ci h ad cA A res) ([.ref h, .long a0, .long a1, .long a2, .long a3] : List Value).toArray s 0 0 A) (F0 m 81 ls [])) ∧ (∀ (v7 : Int64) (v9 : Int64) (σ : pM) (H : Heap) (locs : List Loc), va_P D cl (mw ci h ad cA σ) H → va_D A (mw ci h ad cA σ) → va_S A s.heap H locs → ∀ (ls : Array Slot), lv_has ls 11 [(0, .ref h), (7, .long v7), (9, .long v9)] → (lfX1_sequence K k).2 v7 v9 σ = some res → W p l e (headSpec (ws_ yX1_sequence cX1_sequence 11 (some .long)) ({ frames := 1, cells := 0, slots := 0, locals := 26 })).room s m ([.ref h, .long a0, .long a1, .long a2, .long a3] : List Value).toArray below meth c H locs 0 0 (MQ below (mQl D cl ci h ad cA A res) ([.ref h, .long a0, .long a1, .long a2, .long a3] : List Value).toArray s 0 0 A) (F0 m 111 ls [])) := by
  intro k
  induction k with
  | zero =>
    exact ⟨fun _ _ _ _ _ _ _ _ _ _ hf => (by cases hf), fun _ _ _ _ _ _ _ _ _ _ hf => (by cases hf)⟩
  | succ k ih =>
    refine ⟨?_, ?_⟩
    · intro v7 v9 σ H locs hP hD hS ls hl hf
      have hf : (if v9 ≤ (0 : Int64) then (dz_l (σ.2.2.2 1 (Int32.toNatClampNeg 2)) fun x1 => some (x1, σ)) else (if (v9 &&& 1) = (1 : Int64) then (dz_b (fnX1_times_1_2 K v7 σ) fun s3 => (lfX1_sequence K k).2 v7 v9 s3) else ((lfX1_sequence K k).2 v7 v9 σ)) : Option (Int64 × pM)) = some res := hf
      refine lv_lload hx hb dX1_sequence_81 (lv_at hl 2 rfl) ?_
      refine lv_lconst (v := 0) hx hb dX1_sequence_83 rfl ?_
      refine W.lcmp hx hb dX1_sequence_84 ?_
      refine lv_if_le (tgt := 134) hx hb dX1_sequence_85 (by decide) (fun c85 => ?_) (fun c85 => ?_)
      · have c85 : v9 ≤ (0 : Int64) := (lg_cmp_le _ _).mp c85
        have hf := dz_t c85 hf
        refine lv_aload_n hx hb dX1_sequence_134 rfl (lv_at hl 0 rfl) ?_
        refine va_get (C := RX1) (T := TX1) (N := 35) (fs := mwF ad σ) (v := .ref (ad 1)) hx hb hts in_X1 hown hK hP 0 rfl hci 1 (by decide) (hts _ q1672) (fun _ hq => hq) rfl dX1_sequence_135 ?_
        refine lv_iconst (v := 2) hx hb dX1_sequence_138 (by decide) ?_
        refine va_lald hx hb hK hP 1 1 rfl rfl (by unfold vp_in; decide) dX1_sequence_139 ?_
        refine lv_topl (fun x1 e_x1 => ?_)
        have hf := dz_ls e_x1 hf
        exact W.lret (v := x1) hx hb hr (fun t ht hW => ⟨⟨x1, σ, rfl, Option.some.inj hf, by rw [ht]; exact hP, va_K.moved hW.alike hK, hD⟩, hS.F ht⟩) hS.2.2 dX1_sequence_140
      · have c85 : ¬ v9 ≤ (0 : Int64) := fun hq => c85 ((lg_cmp_le _ _).mpr hq)
        have hf := dz_f c85 hf
        refine lv_lload hx hb dX1_sequence_88 (lv_at hl 2 rfl) ?_
        refine lv_lconst (v := 1) hx hb dX1_sequence_90 rfl ?_
        refine lv_land hx hb dX1_sequence_91 ?_
        refine lv_lconst (v := 1) hx hb dX1_sequence_92 rfl ?_
        refine W.lcmp hx hb dX1_sequence_93 ?_
        refine lv_if_ne (tgt := 111) hx hb dX1_sequence_94 (by decide) (fun c94 => ?_) (fun c94 => ?_)
        · have c94 : ¬ (v9 &&& 1) = (1 : Int64) := fun hq => c94 ((lg_cmp_eq _ _).mpr hq)
          have hf := dz_f c94 hf
          exact ih.2 v7 v9 σ H locs hP hD hS ls (lv_sub hl [0, 1, 2] rfl) hf
        · have c94 : (v9 &&& 1) = (1 : Int64) := (lg_cmp_eq _ _).mp c94
          have hf := dz_t c94 hf
          refine lv_aload_n hx hb dX1_sequence_97 rfl (lv_at hl 0 rfl) ?_
          refine lv_aload_n hx hb dX1_sequence_98 rfl (lv_at hl 0 rfl) ?_
          refine va_get (C := RX1) (T := TX1) (N := 35) (fs := mwF ad σ) (v := .ref (ad 1)) hx hb hts in_X1 hown hK hP 0 rfl hci 1 (by decide) (hts _ q1672) (fun _ hq => hq) rfl dX1_sequence_99 ?_
          refine lv_aload_n hx hb dX1_sequence_102 rfl (lv_at hl 0 rfl) ?_
          refine va_get (C := RX1) (T := TX1) (N := 35) (fs := mwF ad σ) (v := .ref (ad 2)) hx hb hts in_X1 hown hK hP 0 rfl hci 2 (by decide) (hts _ q1673) (fun _ hq => hq) rfl dX1_sequence_103 ?_
          refine lv_lload hx hb dX1_sequence_106 (lv_at hl 1 rfl) ?_
          obtain ⟨s3, hx2, hf⟩ := dz_bo hf
          have hFc := dz_free hD hS hA
          refine va_callv (va_runV (As := [.ref (ad 1), .ref (ad 2), .long v7]) (rest := []) ⟨hx, hb, hml, hown, hts⟩ (mtX1_times_1_2 l D cl ci hci h ad cA H.size σ v7 K s3 hx2) (cwV 3 hts (lw_V q1867 q1869 qs47 q88 q1870) rfl rfl rfl (by decide +kernel) ⟨Nat.le_of_ble_eq_true rfl, Nat.le_of_ble_eq_true rfl⟩) (m_preV hci hK hP hD) rfl rfl hl.1 rfl (lv_room (Nat.le_of_ble_eq_true rfl)) dX1_sequence_108 ⟨Nat.le_refl _, Nat.le_refl _⟩) hS (fun q _ hq => hFc q hq) hFc (fun u t H1 locs ht hvm hw hB hz hk hS => ?_)
          replace hw := hw.symm; subst hw
          replace hP := m_back ht hB
          replace hD := mw_D s3 hD
          clear hB hk hz hvm ht hFc; generalize H1 = H at hP hS ⊢
          exact ih.2 v7 v9 s3 H locs hP hD hS ls (lv_sub hl [0, 1, 2] rfl) hf
    · intro v7 v9 σ H locs hP hD hS ls hl hf
      have hf : (dz_b (fnX1_times_2_2 K v7 σ) fun s2 => dz_l (v9 >>> (Int32.toInt64 1 &&& 63)) fun x3 => (lfX1_sequence K k).1 v7 x3 s2 : Option (Int64 × pM)) = some res := hf
      refine lv_aload_n hx hb dX1_sequence_111 rfl (lv_at hl 0 rfl) ?_
      refine lv_aload_n hx hb dX1_sequence_112 rfl (lv_at hl 0 rfl) ?_
      refine va_get (C := RX1) (T := TX1) (N := 35) (fs := mwF ad σ) (v := .ref (ad 2)) hx hb hts in_X1 hown hK hP 0 rfl hci 2 (by decide) (hts _ q1673) (fun _ hq => hq) rfl dX1_sequence_113 ?_
      refine lv_aload_n hx hb dX1_sequence_116 rfl (lv_at hl 0 rfl) ?_
      refine va_get (C := RX1) (T := TX1) (N := 35) (fs := mwF ad σ) (v := .ref (ad 2)) hx hb hts in_X1 hown hK hP 0 rfl hci 2 (by decide) (hts _ q1673) (fun _ hq => hq) rfl dX1_sequence_117 ?_
      refine lv_lload hx hb dX1_sequence_120 (lv_at hl 1 rfl) ?_
      obtain ⟨s2, hx1, hf⟩ := dz_bo hf
      have hFc := dz_free hD hS hA
      refine va_callv (va_runV (As := [.ref (ad 2), .ref (ad 2), .long v7]) (rest := []) ⟨hx, hb, hml, hown, hts⟩ (mtX1_times_2_2 l D cl ci hci h ad cA H.size σ v7 K s2 hx1) (cwV 3 hts (lw_V q1867 q1869 qs47 q88 q1870) rfl rfl rfl (by decide +kernel) ⟨Nat.le_of_ble_eq_true rfl, Nat.le_of_ble_eq_true rfl⟩) (m_preV hci hK hP hD) rfl rfl hl.1 rfl (lv_room (Nat.le_of_ble_eq_true rfl)) dX1_sequence_122 ⟨Nat.le_refl _, Nat.le_refl _⟩) hS (fun q _ hq => hFc q hq) hFc (fun u t H1 locs ht hvm hw hB hz hk hS => ?_)
      replace hw := hw.symm; subst hw
      replace hP := m_back ht hB
      replace hD := mw_D s2 hD
      clear hB hk hz hvm ht hFc; generalize H1 = H at hP hS ⊢
      refine lv_lload hx hb dX1_sequence_125 (lv_at hl 2 rfl) ?_
      refine lv_iconst (v := 1) hx hb dX1_sequence_127 (by decide) ?_
      refine lv_lshr hx hb dX1_sequence_128 (rfl : _ = v9 >>> (Int32.toInt64 1 &&& 63)) ?_
      refine lv_topl (fun x3 e_x3 => ?_)
      have hf := dz_ls e_x3 hf
      refine lv_lstore (lv' := [(9, .long x3), (0, .ref h), (7, .long v7)]) hx hb dX1_sequence_129 hl (by decide) rfl (fun ls hl => ?_)
      refine lv_goto (tgt := 81) hx hb dX1_sequence_131 (by decide) ?_
      exact ih.1 v7 x3 s2 H locs hP hD hS ls (lv_sub hl [1, 2, 0] rfl) hf
set_option maxHeartbeats 4000000 in
set_option maxRecDepth 100000 in
theorem mtX1_sequence (l : Launch) (D : va_G) (cl : List vw_C) (ci : Nat) (hci : cl[ci]? = some (RX1, TX1, 35)) (h : Nat) (ad : Nat → Nat) (cA : Nat → ClassId) (sz : Nat) (σ : pM) (a0 : Int64) (a1 : Int64) (a2 : Int64) (a3 : Int64) (K : Nat) (res : (Int64 × pM)) (hf : fnX1_sequence K a0 a1 a2 a3 σ = some res) : Met l yX1_sequence (ws_ yX1_sequence cX1_sequence 11 (some .long)) ({ frames := 1, cells := 0, slots := 0, locals := 26 }) (mPc D cl ci h ad cA sz σ [.ref h, .long a0, .long a1, .long a2, .long a3]) (mQl D cl ci h ad cA (va_A (mw ci h ad cA σ) sz) res) 0 0 (va_A (mw ci h ad cA σ) sz) := by
  refine Met.ofW (cc := cX1_sequence) (maxL := 11) (ret := some .long) (by decide +kernel) rfl ?_
  intro p e s m args below meth c s₁ B hml hv
  obtain ⟨rfl, hsz, hP, hK, hD0⟩ := hv
  have hx := B.exec
  have hb := B.bytes
  have hr := B.returns
  have hts := atoms_spec (ws := ws_ yX1_sequence cX1_sequence 11 (some .long)) B.pre
  have hts : ∀ w ∈ lw_all, w.before _ s = true := fun w h => hts w (List.mem_cons_of_mem _ h)
  have hown : s.vm.findClass RX1 = some m.cls := findClass_of_methodNamed B.named
  have hlocks := B.notSynchronized
  subst hsz
  have hD := hD0.self (sz := s.heap.size)
  generalize hAe : va_A (mw ci h ad cA σ) s.heap.size = A at hD ⊢
  have hA : ∀ q : Nat, s.heap.size ≤ q → A q := fun q h => by rw [← hAe]; exact Or.inr h
  clear hAe hD0
  have hS : va_S A s.heap s.heap [] := va_S.rf
  generalize hHe : s.heap = H at hP hS ⊢
  have hS : va_S A s.heap H [] := by rw [hHe]; exact hS
  generalize ([] : List Loc) = locs at hS ⊢
  have hl := lv_entry ([.ref h, .long a0, .long a1, .long a2, .long a3]) (n := 11) (Nat.le_of_ble_eq_true rfl)
  rw [lg_entry_eq]
  generalize (lg_sl ([.ref h, .long a0, .long a1, .long a2, .long a3]) ++ List.replicate (11 - (lg_sl ([.ref h, .long a0, .long a1, .long a2, .long a3])).length) Slot.unset).toArray = ls at hl ⊢
  have hl : lv_has ls 11 [(0, .ref h), (1, .long a0), (3, .long a1), (5, .long a2), (7, .long a3)] := hl
  have hf : (if ¬ a3 = 0 then (dz_l (1 - 1 / a3 * a3) fun x2 => dz_l (mJ σ 1 (Int32.toNatClampNeg 0) x2) fun s3 => dz_l (mJ s3 1 (Int32.toNatClampNeg 1) 0) fun s4 => dz_l (mJ s4 1 (Int32.toNatClampNeg 2) 0) fun s5 => if ¬ a3 = 0 then (dz_l (1 - 1 / a3 * a3) fun x7 => dz_l (mJ s5 1 (Int32.toNatClampNeg 3) x7) fun s8 => if ¬ a3 = 0 then (dz_l (a0 - a0 / a3 * a3) fun x10 => dz_l (mJ s8 2 (Int32.toNatClampNeg 0) x10) fun s11 => if ¬ a3 = 0 then (dz_l (a1 - a1 / a3 * a3) fun x13 => if ¬ a3 = 0 then (dz_l ((a3 - x13) - (a3 - x13) / a3 * a3) fun x15 => dz_l (mJ s11 2 (Int32.toNatClampNeg 1) x15) fun s16 => if ¬ a3 = 0 then (dz_l (1 - 1 / a3 * a3) fun x18 => dz_l (mJ s16 2 (Int32.toNatClampNeg 2) x18) fun s19 => dz_l (mJ s19 2 (Int32.toNatClampNeg 3) 0) fun s20 => (lfX1_sequence K K).1 a3 a2 s20) else none) else none) else none) else none) else none) else none : Option (Int64 × pM)) = some res := hf
  have ih := wlX1_sequence (l := l) (e := e) (below := below) (h := h) (ad := ad) (cA := cA) hci hA hK K res a0 a1 a2 a3 hx hb hr hlocks hml hown hts K
  refine lv_aload_n hx hb dX1_sequence_0 rfl (lv_at hl 0 rfl) ?_
  refine va_get (C := RX1) (T := TX1) (N := 35) (fs := mwF ad σ) (v := .ref (ad 1)) hx hb hts in_X1 hown hK hP 0 rfl hci 1 (by decide) (hts _ q1672) (fun _ hq => hq) rfl dX1_sequence_1 ?_
  refine lv_iconst (v := 0) hx hb dX1_sequence_4 (by decide) ?_
  refine lv_lconst (v := 1) hx hb dX1_sequence_5 rfl ?_
  refine lv_lload hx hb dX1_sequence_6 (lv_at hl 4 rfl) ?_
  obtain ⟨g1, hf⟩ := dz_go hf
  refine lv_lrem hx hb dX1_sequence_8 g1 ?_
  refine lv_topl (fun x2 e_x2 => ?_)
  have hf := dz_ls e_x2 hf
  refine va_last hx hb hK hP hD hS 1 1 rfl rfl (by unfold vp_in; decide) dX1_sequence_9 (fun H locs hP1 _ hS => ?_)
  obtain ⟨s3, e_s3, hf⟩ := dz_lo hf
  have hP : va_P D cl (mw ci h ad cA s3) H := by rw [e_s3]; exact hP1
  clear hP1; replace hD := mw_D s3 hD
  refine lv_aload_n hx hb dX1_sequence_10 rfl (lv_at hl 0 rfl) ?_
  refine va_get (C := RX1) (T := TX1) (N := 35) (fs := mwF ad s3) (v := .ref (ad 1)) hx hb hts in_X1 hown hK hP 0 rfl hci 1 (by decide) (hts _ q1672) (fun _ hq => hq) rfl dX1_sequence_11 ?_
  refine lv_iconst (v := 1) hx hb dX1_sequence_14 (by decide) ?_
  refine lv_lconst (v := 0) hx hb dX1_sequence_15 rfl ?_
  refine va_last hx hb hK hP hD hS 1 1 rfl rfl (by unfold vp_in; decide) dX1_sequence_16 (fun H locs hP1 _ hS => ?_)
  obtain ⟨s4, e_s4, hf⟩ := dz_lo hf
  have hP : va_P D cl (mw ci h ad cA s4) H := by rw [e_s4]; exact hP1
  clear hP1; replace hD := mw_D s4 hD
  refine lv_aload_n hx hb dX1_sequence_17 rfl (lv_at hl 0 rfl) ?_
  refine va_get (C := RX1) (T := TX1) (N := 35) (fs := mwF ad s4) (v := .ref (ad 1)) hx hb hts in_X1 hown hK hP 0 rfl hci 1 (by decide) (hts _ q1672) (fun _ hq => hq) rfl dX1_sequence_18 ?_
  refine lv_iconst (v := 2) hx hb dX1_sequence_21 (by decide) ?_
  refine lv_lconst (v := 0) hx hb dX1_sequence_22 rfl ?_
  refine va_last hx hb hK hP hD hS 1 1 rfl rfl (by unfold vp_in; decide) dX1_sequence_23 (fun H locs hP1 _ hS => ?_)
  obtain ⟨s5, e_s5, hf⟩ := dz_lo hf
  have hP : va_P D cl (mw ci h ad cA s5) H := by rw [e_s5]; exact hP1
  clear hP1; replace hD := mw_D s5 hD
  refine lv_aload_n hx hb dX1_sequence_24 rfl (lv_at hl 0 rfl) ?_
  refine va_get (C := RX1) (T := TX1) (N := 35) (fs := mwF ad s5) (v := .ref (ad 1)) hx hb hts in_X1 hown hK hP 0 rfl hci 1 (by decide) (hts _ q1672) (fun _ hq => hq) rfl dX1_sequence_25 ?_
  refine lv_iconst (v := 3) hx hb dX1_sequence_28 (by decide) ?_
  refine lv_lconst (v := 1) hx hb dX1_sequence_29 rfl ?_
  refine lv_lload hx hb dX1_sequence_30 (lv_at hl 4 rfl) ?_
  obtain ⟨g6, hf⟩ := dz_go hf
  refine lv_lrem hx hb dX1_sequence_32 g6 ?_
  refine lv_topl (fun x7 e_x7 => ?_)
  have hf := dz_ls e_x7 hf
  refine va_last hx hb hK hP hD hS 1 1 rfl rfl (by unfold vp_in; decide) dX1_sequence_33 (fun H locs hP1 _ hS => ?_)
  obtain ⟨s8, e_s8, hf⟩ := dz_lo hf
  have hP : va_P D cl (mw ci h ad cA s8) H := by rw [e_s8]; exact hP1
  clear hP1; replace hD := mw_D s8 hD
  refine lv_aload_n hx hb dX1_sequence_34 rfl (lv_at hl 0 rfl) ?_
  refine va_get (C := RX1) (T := TX1) (N := 35) (fs := mwF ad s8) (v := .ref (ad 2)) hx hb hts in_X1 hown hK hP 0 rfl hci 2 (by decide) (hts _ q1673) (fun _ hq => hq) rfl dX1_sequence_35 ?_
  refine lv_iconst (v := 0) hx hb dX1_sequence_38 (by decide) ?_
  refine lv_lload_n hx hb dX1_sequence_39 rfl (lv_at hl 1 rfl) ?_
  refine lv_lload hx hb dX1_sequence_40 (lv_at hl 4 rfl) ?_
  obtain ⟨g9, hf⟩ := dz_go hf
  refine lv_lrem hx hb dX1_sequence_42 g9 ?_
  refine lv_topl (fun x10 e_x10 => ?_)
  have hf := dz_ls e_x10 hf
  refine va_last hx hb hK hP hD hS 2 1 rfl rfl (by unfold vp_in; decide) dX1_sequence_43 (fun H locs hP1 _ hS => ?_)
  obtain ⟨s11, e_s11, hf⟩ := dz_lo hf
  have hP : va_P D cl (mw ci h ad cA s11) H := by rw [e_s11]; exact hP1
  clear hP1; replace hD := mw_D s11 hD
  refine lv_aload_n hx hb dX1_sequence_44 rfl (lv_at hl 0 rfl) ?_
  refine va_get (C := RX1) (T := TX1) (N := 35) (fs := mwF ad s11) (v := .ref (ad 2)) hx hb hts in_X1 hown hK hP 0 rfl hci 2 (by decide) (hts _ q1673) (fun _ hq => hq) rfl dX1_sequence_45 ?_
  refine lv_iconst (v := 1) hx hb dX1_sequence_48 (by decide) ?_
  refine lv_lload hx hb dX1_sequence_49 (lv_at hl 4 rfl) ?_
  refine lv_lload_n hx hb dX1_sequence_51 rfl (lv_at hl 2 rfl) ?_
  refine lv_lload hx hb dX1_sequence_52 (lv_at hl 4 rfl) ?_
  obtain ⟨g12, hf⟩ := dz_go hf
  refine lv_lrem hx hb dX1_sequence_54 g12 ?_
  refine lv_topl (fun x13 e_x13 => ?_)
  have hf := dz_ls e_x13 hf
  refine lv_lsub hx hb dX1_sequence_55 ?_
  refine lv_lload hx hb dX1_sequence_56 (lv_at hl 4 rfl) ?_
  obtain ⟨g14, hf⟩ := dz_go hf
  refine lv_lrem hx hb dX1_sequence_58 g14 ?_
  refine lv_topl (fun x15 e_x15 => ?_)
  have hf := dz_ls e_x15 hf
  refine va_last hx hb hK hP hD hS 2 1 rfl rfl (by unfold vp_in; decide) dX1_sequence_59 (fun H locs hP1 _ hS => ?_)
  obtain ⟨s16, e_s16, hf⟩ := dz_lo hf
  have hP : va_P D cl (mw ci h ad cA s16) H := by rw [e_s16]; exact hP1
  clear hP1; replace hD := mw_D s16 hD
  refine lv_aload_n hx hb dX1_sequence_60 rfl (lv_at hl 0 rfl) ?_
  refine va_get (C := RX1) (T := TX1) (N := 35) (fs := mwF ad s16) (v := .ref (ad 2)) hx hb hts in_X1 hown hK hP 0 rfl hci 2 (by decide) (hts _ q1673) (fun _ hq => hq) rfl dX1_sequence_61 ?_
  refine lv_iconst (v := 2) hx hb dX1_sequence_64 (by decide) ?_
  refine lv_lconst (v := 1) hx hb dX1_sequence_65 rfl ?_
  refine lv_lload hx hb dX1_sequence_66 (lv_at hl 4 rfl) ?_
  obtain ⟨g17, hf⟩ := dz_go hf
  refine lv_lrem hx hb dX1_sequence_68 g17 ?_
  refine lv_topl (fun x18 e_x18 => ?_)
  have hf := dz_ls e_x18 hf
  refine va_last hx hb hK hP hD hS 2 1 rfl rfl (by unfold vp_in; decide) dX1_sequence_69 (fun H locs hP1 _ hS => ?_)
  obtain ⟨s19, e_s19, hf⟩ := dz_lo hf
  have hP : va_P D cl (mw ci h ad cA s19) H := by rw [e_s19]; exact hP1
  clear hP1; replace hD := mw_D s19 hD
  refine lv_aload_n hx hb dX1_sequence_70 rfl (lv_at hl 0 rfl) ?_
  refine va_get (C := RX1) (T := TX1) (N := 35) (fs := mwF ad s19) (v := .ref (ad 2)) hx hb hts in_X1 hown hK hP 0 rfl hci 2 (by decide) (hts _ q1673) (fun _ hq => hq) rfl dX1_sequence_71 ?_
  refine lv_iconst (v := 3) hx hb dX1_sequence_74 (by decide) ?_
  refine lv_lconst (v := 0) hx hb dX1_sequence_75 rfl ?_
  refine va_last hx hb hK hP hD hS 2 1 rfl rfl (by unfold vp_in; decide) dX1_sequence_76 (fun H locs hP1 _ hS => ?_)
  obtain ⟨s20, e_s20, hf⟩ := dz_lo hf
  have hP : va_P D cl (mw ci h ad cA s20) H := by rw [e_s20]; exact hP1
  clear hP1; replace hD := mw_D s20 hD
  refine lv_lload hx hb dX1_sequence_77 (lv_at hl 3 rfl) ?_
  refine lv_lstore (lv' := [(9, .long a2), (0, .ref h), (1, .long a0), (3, .long a1), (5, .long a2), (7, .long a3)]) hx hb dX1_sequence_79 hl (by decide) rfl (fun ls hl => ?_)
  exact ih.1 a3 a2 s20 H locs hP hD hS ls (lv_sub hl [1, 5, 0] rfl) hf

noncomputable def lfX1_signOf (K : Nat) : Nat → (Int64 → Int64 → Option Int32) × (Int64 → Int64 → Int32 → Option Int32) × (Int64 → Int64 → Int32 → Option Int32) × (Int64 → Int64 → Int32 → Option Int32) × (Int64 → Int64 → Int32 → Option Int32) := Nat.rec (motive := fun _ => (Int64 → Int64 → Option Int32) × (Int64 → Int64 → Int32 → Option Int32) × (Int64 → Int64 → Int32 → Option Int32) × (Int64 → Int64 → Int32 → Option Int32) × (Int64 → Int64 → Int32 → Option Int32)) ((fun _ _ => none), (fun _ _ _ => none), (fun _ _ _ => none), (fun _ _ _ => none), (fun _ _ _ => none)) (fun _ G => ((fun v4 v6 => G.2.1 v4 v6 1), (fun v4 v6 v8 => if v6 = (0 : Int64) then (if v4 = (1 : Int64) then (some v8) else (some 0)) else (G.2.2.1 v4 v6 v8)), (fun v4 v6 v8 => dz_l (v6 - v6 / 2 * 2) fun x1 => if x1 = (0 : Int64) then (dz_l (v6 / 2) fun x5 => dz_l (v4 - v4 / 8 * 8) fun x6 => if x6 = (3 : Int64) then (G.2.2.2.1 v4 x5 v8) else (dz_l (v4 - v4 / 8 * 8) fun x7 => if x7 = (5 : Int64) then (G.2.2.2.1 v4 x5 v8) else (G.2.2.1 v4 x5 v8))) else (dz_l (v4 - v4 / 4 * 4) fun x2 => if x2 = (3 : Int64) then (dz_l (v6 - v6 / 4 * 4) fun x3 => if x3 = (3 : Int64) then (dz_l (-v8) fun x4 => G.2.2.2.2 v6 v4 x4) else (G.2.2.2.2 v6 v4 v8)) else (G.2.2.2.2 v6 v4 v8))), (fun v4 v6 v8 => dz_l (-v8) fun x1 => G.2.2.1 v4 v6 x1), (fun v4 v6 v8 => if ¬ v4 = 0 then (dz_l (v6 - v6 / v4 * v4) fun x2 => G.2.1 v4 x2 v8) else none)))
noncomputable def fnX1_signOf (K : Nat) (a0 : Int64) (a1 : Int64) : Option Int32 := if ¬ a1 = 0 then (dz_l (a0 - a0 / a1 * a1) fun x2 => if (0 : Int64) ≤ x2 then ((lfX1_signOf K K).1 a1 x2) else (dz_l (x2 + a1) fun x3 => (lfX1_signOf K K).1 a1 x3)) else none
set_option maxHeartbeats 4000000 in
set_option maxRecDepth 100000 in
theorem wlX1_signOf {p : Program} {l : Launch} {e : Env} {s : State} {m : MethodId} {below : List Frame} {meth : Method} {c : Code}  (K : Nat) (res : Int32) (a0 : Int64) (a1 : Int64) (hx : p.tables.exec = Jvm.exec) (hb : c.code = cX1_signOf) (hr : meth.sig.returnType = some .int) (hlocks : meth.locks = false) (hml : c.maxLocals = 11) (hown : s.vm.findClass RX1 = some m.cls) (hts : ∀ w ∈ lw_all, w.before ([.long a0, .long a1] : List Value).toArray s = true) : ∀ k : Nat, (∀ (v4 : Int64) (v6 : Int64) (H : Heap) (locs : List Loc), va_S (fun _ => False) s.heap H locs → ∀ (ls : Array Slot), lv_has ls 11 [(4, .long v4), (6, .long v6)] → (lfX1_signOf K k).1 v4 v6 = some res → W p l e (headSpec (ws_ yX1_signOf cX1_signOf 11 (some .int)) ({ frames := 0, cells := 0, slots := 0, locals := 0 })).room s m ([.long a0, .long a1] : List Value).toArray below meth c H locs 0 0 (MQ below (dz_Qi res) ([.long a0, .long a1] : List Value).toArray s 0 0 (fun _ => False)) (F0 m 23 ls [])) ∧ (∀ (v4 : Int64) (v6 : Int64) (v8 : Int32) (H : Heap) (locs : List Loc), va_S (fun _ => False) s.heap H locs → ∀ (ls : Array Slot), lv_has ls 11 [(4, .long v4), (6, .long v6), (8, .int v8)] → (lfX1_signOf K k).2.1 v4 v6 v8 = some res → W p l e (headSpec (ws_ yX1_signOf cX1_signOf 11 (some .int)) ({ frames := 0, cells := 0, slots := 0, locals := 0 })).room s m ([.long a0, .long a1] : List Value).toArray below meth c H locs 0 0 (MQ below (dz_Qi res) ([.long a0, .long a1] : List Value).toArray s 0 0 (fun _ => False)) (F0 m 26 ls [])) ∧ (∀ (v4 : Int64) (v6 : Int64) (v8 : Int32) (H : Heap) (locs : List Loc), va_S (fun _ => False) s.heap H locs → ∀ (ls : Array Slot), lv_has ls 11 [(4, .long v4), (6, .long v6), (8, .int v8)] → (lfX1_signOf K k).2.2.1 v4 v6 v8 = some res → W p l e (headSpec (ws_ yX1_signOf cX1_signOf 11 (some .int)) ({ frames := 0, cells := 0, slots := 0, locals := 0 })).room s m ([.long a0, .long a1] : List Value).toArray below meth c H locs 0 0 (MQ below (dz_Qi res) ([.long a0, .long a1] : List Value).toArray s 0 0 (fun _ => False)) (F0 m 33 ls [])) ∧ (∀ (v4 : Int64) (v6 : Int64) (v8 : Int32) (H : Heap) (locs : List Loc), va_S (fun _ => False) s.heap H locs → ∀ (ls : Array Slot), lv_has ls 11 [(4, .long v4), (6, .long v6), (8, .int v8)] → (lfX1_signOf K k).2.2.2.1 v4 v6 v8 = some res → W p l e (headSpec (ws_ yX1_signOf cX1_signOf 11 (some .int)) ({ frames := 0, cells := 0, slots := 0, locals := 0 })).room s m ([.long a0, .long a1] : List Value).toArray below meth c H locs 0 0 (MQ below (dz_Qi res) ([.long a0, .long a1] : List Value).toArray s 0 0 (fun _ => False)) (F0 m 78 ls [])) ∧ (∀ (v4 : Int64) (v6 : Int64) (v8 : Int32) (H : Heap) (locs : List Loc), va_S (fun _ => False) s.heap H locs → ∀ (ls : Array Slot), lv_has ls 11 [(4, .long v4), (6, .long v6), (8, .int v8)] → (lfX1_signOf K k).2.2.2.2 v4 v6 v8 = some res → W p l e (headSpec (ws_ yX1_signOf cX1_signOf 11 (some .int)) ({ frames := 0, cells := 0, slots := 0, locals := 0 })).room s m ([.long a0, .long a1] : List Value).toArray below meth c H locs 0 0 (MQ below (dz_Qi res) ([.long a0, .long a1] : List Value).toArray s 0 0 (fun _ => False)) (F0 m 129 ls [])) := by
  intro k
  induction k with
  | zero =>
    exact ⟨fun _ _ _ _ _ _ _ hf => (by cases hf), fun _ _ _ _ _ _ _ _ hf => (by cases hf), fun _ _ _ _ _ _ _ _ hf => (by cases hf), fun _ _ _ _ _ _ _ _ hf => (by cases hf), fun _ _ _ _ _ _ _ _ hf => (by cases hf)⟩
  | succ k ih =>
    refine ⟨?_, ?_, ?_, ?_, ?_⟩
    · intro v4 v6 H locs hS ls hl hf
      have hf : ((lfX1_signOf K k).2.1 v4 v6 1 : Option Int32) = some res := hf
      refine lv_iconst (v := 1) hx hb dX1_signOf_23 (by decide) ?_
      refine lv_istore (lv' := [(8, .int 1), (4, .long v4), (6, .long v6)]) hx hb dX1_signOf_24 hl (by decide) rfl (fun ls hl => ?_)
      exact ih.2.1 v4 v6 1 H locs hS ls (lv_sub hl [1, 2, 0] rfl) hf
    · intro v4 v6 v8 H locs hS ls hl hf
      have hf : (if v6 = (0 : Int64) then (if v4 = (1 : Int64) then (some v8) else (some 0)) else ((lfX1_signOf K k).2.2.1 v4 v6 v8) : Option Int32) = some res := hf
      refine lv_lload hx hb dX1_signOf_26 (lv_at hl 1 rfl) ?_
      refine lv_lconst (v := 0) hx hb dX1_signOf_28 rfl ?_
      refine W.lcmp hx hb dX1_signOf_29 ?_
      refine lv_if_eq (tgt := 139) hx hb dX1_signOf_30 (by decide) (fun c30 => ?_) (fun c30 => ?_)
      · have c30 : v6 = (0 : Int64) := (lg_cmp_eq _ _).mp c30
        have hf := dz_t c30 hf
        refine lv_lload hx hb dX1_signOf_139 (lv_at hl 0 rfl) ?_
        refine lv_lconst (v := 1) hx hb dX1_signOf_141 rfl ?_
        refine W.lcmp hx hb dX1_signOf_142 ?_
        refine lv_if_ne (tgt := 151) hx hb dX1_signOf_143 (by decide) (fun c143 => ?_) (fun c143 => ?_)
        · have c143 : ¬ v4 = (1 : Int64) := fun hq => c143 ((lg_cmp_eq _ _).mpr hq)
          have hf := dz_f c143 hf
          refine lv_iconst (v := 0) hx hb dX1_signOf_151 (by decide) ?_
          exact W.iret (v := 0) hx hb hr (fun t ht hW => ⟨⟨0, (), rfl, Option.some.inj hf, trivial⟩, hS.F ht⟩) hS.2.2 dX1_signOf_152
        · have c143 : v4 = (1 : Int64) := (lg_cmp_eq _ _).mp c143
          have hf := dz_t c143 hf
          refine lv_iload hx hb dX1_signOf_146 (lv_at hl 2 rfl) ?_
          refine lv_goto (tgt := 152) hx hb dX1_signOf_148 (by decide) ?_
          exact W.iret (v := v8) hx hb hr (fun t ht hW => ⟨⟨v8, (), rfl, Option.some.inj hf, trivial⟩, hS.F ht⟩) hS.2.2 dX1_signOf_152
      · have c30 : ¬ v6 = (0 : Int64) := fun hq => c30 ((lg_cmp_eq _ _).mpr hq)
        have hf := dz_f c30 hf
        exact ih.2.2.1 v4 v6 v8 H locs hS ls (lv_sub hl [0, 1, 2] rfl) hf
    · intro v4 v6 v8 H locs hS ls hl hf
      have hf : (dz_l (v6 - v6 / 2 * 2) fun x1 => if x1 = (0 : Int64) then (dz_l (v6 / 2) fun x5 => dz_l (v4 - v4 / 8 * 8) fun x6 => if x6 = (3 : Int64) then ((lfX1_signOf K k).2.2.2.1 v4 x5 v8) else (dz_l (v4 - v4 / 8 * 8) fun x7 => if x7 = (5 : Int64) then ((lfX1_signOf K k).2.2.2.1 v4 x5 v8) else ((lfX1_signOf K k).2.2.1 v4 x5 v8))) else (dz_l (v4 - v4 / 4 * 4) fun x2 => if x2 = (3 : Int64) then (dz_l (v6 - v6 / 4 * 4) fun x3 => if x3 = (3 : Int64) then (dz_l (-v8) fun x4 => (lfX1_signOf K k).2.2.2.2 v6 v4 x4) else ((lfX1_signOf K k).2.2.2.2 v6 v4 v8)) else ((lfX1_signOf K k).2.2.2.2 v6 v4 v8)) : Option Int32) = some res := hf
      refine lv_lload hx hb dX1_signOf_33 (lv_at hl 1 rfl) ?_
      refine lv_ldc2 (v := 2) hx hb hown (hts _ q1789) dX1_signOf_35 ?_
      refine lv_lrem hx hb dX1_signOf_38 (by decide) ?_
      refine lv_topl (fun x1 e_x1 => ?_)
      have hf := dz_ls e_x1 hf
      refine lv_lconst (v := 0) hx hb dX1_signOf_39 rfl ?_
      refine W.lcmp hx hb dX1_signOf_40 ?_
      refine lv_if_ne (tgt := 86) hx hb dX1_signOf_41 (by decide) (fun c41 => ?_) (fun c41 => ?_)
      · have c41 : ¬ x1 = (0 : Int64) := fun hq => c41 ((lg_cmp_eq _ _).mpr hq)
        have hf := dz_f c41 hf
        refine lv_lload hx hb dX1_signOf_86 (lv_at hl 1 rfl) ?_
        refine lv_lstore (lv' := [(9, .long v6), (4, .long v4), (6, .long v6), (8, .int v8)]) hx hb dX1_signOf_88 hl (by decide) rfl (fun ls hl => ?_)
        refine lv_lload hx hb dX1_signOf_90 (lv_at hl 1 rfl) ?_
        refine lv_lstore (lv' := [(6, .long v4), (9, .long v6), (4, .long v4), (8, .int v8)]) hx hb dX1_signOf_92 hl (by decide) rfl (fun ls hl => ?_)
        refine lv_lload hx hb dX1_signOf_94 (lv_at hl 1 rfl) ?_
        refine lv_lstore (lv' := [(4, .long v6), (6, .long v4), (9, .long v6), (8, .int v8)]) hx hb dX1_signOf_96 hl (by decide) rfl (fun ls hl => ?_)
        refine lv_lload hx hb dX1_signOf_98 (lv_at hl 1 rfl) ?_
        refine lv_ldc2 (v := 4) hx hb hown (hts _ q1782) dX1_signOf_100 ?_
        refine lv_lrem hx hb dX1_signOf_103 (by decide) ?_
        refine lv_topl (fun x2 e_x2 => ?_)
        have hf := dz_ls e_x2 hf
        refine lv_ldc2 (v := 3) hx hb hown (hts _ q1861) dX1_signOf_104 ?_
        refine W.lcmp hx hb dX1_signOf_107 ?_
        refine lv_if_ne (tgt := 129) hx hb dX1_signOf_108 (by decide) (fun c108 => ?_) (fun c108 => ?_)
        · have c108 : ¬ x2 = (3 : Int64) := fun hq => c108 ((lg_cmp_eq _ _).mpr hq)
          have hf := dz_f c108 hf
          exact ih.2.2.2.2 v6 v4 v8 H locs hS ls (lv_sub hl [0, 1, 3] rfl) hf
        · have c108 : x2 = (3 : Int64) := (lg_cmp_eq _ _).mp c108
          have hf := dz_t c108 hf
          refine lv_lload hx hb dX1_signOf_111 (lv_at hl 0 rfl) ?_
          refine lv_ldc2 (v := 4) hx hb hown (hts _ q1782) dX1_signOf_113 ?_
          refine lv_lrem hx hb dX1_signOf_116 (by decide) ?_
          refine lv_topl (fun x3 e_x3 => ?_)
          have hf := dz_ls e_x3 hf
          refine lv_ldc2 (v := 3) hx hb hown (hts _ q1861) dX1_signOf_117 ?_
          refine W.lcmp hx hb dX1_signOf_120 ?_
          refine lv_if_ne (tgt := 129) hx hb dX1_signOf_121 (by decide) (fun c121 => ?_) (fun c121 => ?_)
          · have c121 : ¬ x3 = (3 : Int64) := fun hq => c121 ((lg_cmp_eq _ _).mpr hq)
            have hf := dz_f c121 hf
            exact ih.2.2.2.2 v6 v4 v8 H locs hS ls (lv_sub hl [0, 1, 3] rfl) hf
          · have c121 : x3 = (3 : Int64) := (lg_cmp_eq _ _).mp c121
            have hf := dz_t c121 hf
            refine lv_iload hx hb dX1_signOf_124 (lv_at hl 3 rfl) ?_
            refine lv_ineg hx hb dX1_signOf_126 ?_
            refine lv_topi (fun x4 e_x4 => ?_)
            have hf := dz_ls e_x4 hf
            refine lv_istore (lv' := [(8, .int x4), (4, .long v6), (6, .long v4), (9, .long v6)]) hx hb dX1_signOf_127 hl (by decide) rfl (fun ls hl => ?_)
            exact ih.2.2.2.2 v6 v4 x4 H locs hS ls (lv_sub hl [1, 2, 0] rfl) hf
      · have c41 : x1 = (0 : Int64) := (lg_cmp_eq _ _).mp c41
        have hf := dz_t c41 hf
        refine lv_lload hx hb dX1_signOf_44 (lv_at hl 1 rfl) ?_
        refine lv_ldc2 (v := 2) hx hb hown (hts _ q1789) dX1_signOf_46 ?_
        refine lv_ldiv hx hb dX1_signOf_49 (by decide) ?_
        refine lv_topl (fun x5 e_x5 => ?_)
        have hf := dz_ls e_x5 hf
        refine lv_lstore (lv' := [(6, .long x5), (4, .long v4), (8, .int v8)]) hx hb dX1_signOf_50 hl (by decide) rfl (fun ls hl => ?_)
        refine lv_lload hx hb dX1_signOf_52 (lv_at hl 1 rfl) ?_
        refine lv_ldc2 (v := 8) hx hb hown (hts _ q1860) dX1_signOf_54 ?_
        refine lv_lrem hx hb dX1_signOf_57 (by decide) ?_
        refine lv_topl (fun x6 e_x6 => ?_)
        have hf := dz_ls e_x6 hf
        refine lv_ldc2 (v := 3) hx hb hown (hts _ q1861) dX1_signOf_58 ?_
        refine W.lcmp hx hb dX1_signOf_61 ?_
        refine lv_if_eq (tgt := 78) hx hb dX1_signOf_62 (by decide) (fun c62 => ?_) (fun c62 => ?_)
        · have c62 : x6 = (3 : Int64) := (lg_cmp_eq _ _).mp c62
          have hf := dz_t c62 hf
          exact ih.2.2.2.1 v4 x5 v8 H locs hS ls (lv_sub hl [1, 0, 2] rfl) hf
        · have c62 : ¬ x6 = (3 : Int64) := fun hq => c62 ((lg_cmp_eq _ _).mpr hq)
          have hf := dz_f c62 hf
          refine lv_lload hx hb dX1_signOf_65 (lv_at hl 1 rfl) ?_
          refine lv_ldc2 (v := 8) hx hb hown (hts _ q1860) dX1_signOf_67 ?_
          refine lv_lrem hx hb dX1_signOf_70 (by decide) ?_
          refine lv_topl (fun x7 e_x7 => ?_)
          have hf := dz_ls e_x7 hf
          refine lv_ldc2 (v := 5) hx hb hown (hts _ q1862) dX1_signOf_71 ?_
          refine W.lcmp hx hb dX1_signOf_74 ?_
          refine lv_if_ne (tgt := 33) hx hb dX1_signOf_75 (by decide) (fun c75 => ?_) (fun c75 => ?_)
          · have c75 : ¬ x7 = (5 : Int64) := fun hq => c75 ((lg_cmp_eq _ _).mpr hq)
            have hf := dz_f c75 hf
            exact ih.2.2.1 v4 x5 v8 H locs hS ls (lv_sub hl [1, 0, 2] rfl) hf
          · have c75 : x7 = (5 : Int64) := (lg_cmp_eq _ _).mp c75
            have hf := dz_t c75 hf
            exact ih.2.2.2.1 v4 x5 v8 H locs hS ls (lv_sub hl [1, 0, 2] rfl) hf
    · intro v4 v6 v8 H locs hS ls hl hf
      have hf : (dz_l (-v8) fun x1 => (lfX1_signOf K k).2.2.1 v4 v6 x1 : Option Int32) = some res := hf
      refine lv_iload hx hb dX1_signOf_78 (lv_at hl 2 rfl) ?_
      refine lv_ineg hx hb dX1_signOf_80 ?_
      refine lv_topi (fun x1 e_x1 => ?_)
      have hf := dz_ls e_x1 hf
      refine lv_istore (lv' := [(8, .int x1), (4, .long v4), (6, .long v6)]) hx hb dX1_signOf_81 hl (by decide) rfl (fun ls hl => ?_)
      refine lv_goto (tgt := 33) hx hb dX1_signOf_83 (by decide) ?_
      exact ih.2.2.1 v4 v6 x1 H locs hS ls (lv_sub hl [1, 2, 0] rfl) hf
    · intro v4 v6 v8 H locs hS ls hl hf
      have hf : (if ¬ v4 = 0 then (dz_l (v6 - v6 / v4 * v4) fun x2 => (lfX1_signOf K k).2.1 v4 x2 v8) else none : Option Int32) = some res := hf
      refine lv_lload hx hb dX1_signOf_129 (lv_at hl 1 rfl) ?_
      refine lv_lload hx hb dX1_signOf_131 (lv_at hl 0 rfl) ?_
      obtain ⟨g1, hf⟩ := dz_go hf
      refine lv_lrem hx hb dX1_signOf_133 g1 ?_
      refine lv_topl (fun x2 e_x2 => ?_)
      have hf := dz_ls e_x2 hf
      refine lv_lstore (lv' := [(6, .long x2), (4, .long v4), (8, .int v8)]) hx hb dX1_signOf_134 hl (by decide) rfl (fun ls hl => ?_)
      refine lv_goto (tgt := 26) hx hb dX1_signOf_136 (by decide) ?_
      exact ih.2.1 v4 x2 v8 H locs hS ls (lv_sub hl [1, 0, 2] rfl) hf
set_option maxHeartbeats 4000000 in
set_option maxRecDepth 100000 in
theorem mtX1_signOf (l : Launch) (a0 : Int64) (a1 : Int64) (K : Nat) (res : Int32) (hf : fnX1_signOf K a0 a1 = some res) : Met l yX1_signOf (ws_ yX1_signOf cX1_signOf 11 (some .int)) ({ frames := 0, cells := 0, slots := 0, locals := 0 }) (dz_P [.long a0, .long a1]) (dz_Qi res) 0 0 (fun _ => False) := by
  refine Met.ofW (cc := cX1_signOf) (maxL := 11) (ret := some .int) (by decide +kernel) rfl ?_
  intro p e s m args below meth c s₁ B hml hv
  obtain ⟨rfl, -⟩ := hv
  have hx := B.exec
  have hb := B.bytes
  have hr := B.returns
  have hts := atoms_spec (ws := ws_ yX1_signOf cX1_signOf 11 (some .int)) B.pre
  have hts : ∀ w ∈ lw_all, w.before _ s = true := fun w h => hts w (List.mem_cons_of_mem _ h)
  have hown : s.vm.findClass RX1 = some m.cls := findClass_of_methodNamed B.named
  have hlocks := B.notSynchronized
  have hS : va_S (fun _ => False) s.heap s.heap [] := va_S.rf
  generalize hHe : s.heap = H at hS ⊢
  have hS : va_S (fun _ => False) s.heap H [] := by rw [hHe]; exact hS
  generalize ([] : List Loc) = locs at hS ⊢
  have hl := lv_entry ([.long a0, .long a1]) (n := 11) (Nat.le_of_ble_eq_true rfl)
  rw [lg_entry_eq]
  generalize (lg_sl ([.long a0, .long a1]) ++ List.replicate (11 - (lg_sl ([.long a0, .long a1])).length) Slot.unset).toArray = ls at hl ⊢
  have hl : lv_has ls 11 [(0, .long a0), (2, .long a1)] := hl
  have hf : (if ¬ a1 = 0 then (dz_l (a0 - a0 / a1 * a1) fun x2 => if (0 : Int64) ≤ x2 then ((lfX1_signOf K K).1 a1 x2) else (dz_l (x2 + a1) fun x3 => (lfX1_signOf K K).1 a1 x3)) else none : Option Int32) = some res := hf
  have ih := wlX1_signOf (l := l) (e := e) (below := below) K res a0 a1 hx hb hr hlocks hml hown hts K
  refine lv_lload_n hx hb dX1_signOf_0 rfl (lv_at hl 1 rfl) ?_
  refine lv_lstore (lv' := [(4, .long a1), (0, .long a0), (2, .long a1)]) hx hb dX1_signOf_1 hl (by decide) rfl (fun ls hl => ?_)
  refine lv_lload_n hx hb dX1_signOf_3 rfl (lv_at hl 1 rfl) ?_
  refine lv_lload hx hb dX1_signOf_4 (lv_at hl 0 rfl) ?_
  obtain ⟨g1, hf⟩ := dz_go hf
  refine lv_lrem hx hb dX1_signOf_6 g1 ?_
  refine lv_topl (fun x2 e_x2 => ?_)
  have hf := dz_ls e_x2 hf
  refine lv_lstore (lv' := [(6, .long x2), (4, .long a1), (0, .long a0), (2, .long a1)]) hx hb dX1_signOf_7 hl (by decide) rfl (fun ls hl => ?_)
  refine lv_lload hx hb dX1_signOf_9 (lv_at hl 0 rfl) ?_
  refine lv_lconst (v := 0) hx hb dX1_signOf_11 rfl ?_
  refine W.lcmp hx hb dX1_signOf_12 ?_
  refine lv_if_ge (tgt := 23) hx hb dX1_signOf_13 (by decide) (fun c13 => ?_) (fun c13 => ?_)
  · have c13 : (0 : Int64) ≤ x2 := (lg_cmp_ge _ _).mp c13
    have hf := dz_t c13 hf
    exact ih.1 a1 x2 H locs hS ls (lv_sub hl [1, 0] rfl) hf
  · have c13 : ¬ (0 : Int64) ≤ x2 := fun hq => c13 ((lg_cmp_ge _ _).mpr hq)
    have hf := dz_f c13 hf
    refine lv_lload hx hb dX1_signOf_16 (lv_at hl 0 rfl) ?_
    refine lv_lload hx hb dX1_signOf_18 (lv_at hl 1 rfl) ?_
    refine lv_ladd hx hb dX1_signOf_20 ?_
    refine lv_topl (fun x3 e_x3 => ?_)
    have hf := dz_ls e_x3 hf
    refine lv_lstore (lv' := [(6, .long x3), (4, .long a1), (0, .long a0), (2, .long a1)]) hx hb dX1_signOf_21 hl (by decide) rfl (fun ls hl => ?_)
    exact ih.1 a1 x3 H locs hS ls (lv_sub hl [1, 0] rfl) hf

noncomputable def lfX1_wrongPair (K : Nat) : Nat → (Int32 → Int64 → Int64 → Int64 → Int32 → pM → Option (Int32 × pM)) := Nat.rec (motive := fun _ => (Int32 → Int64 → Int64 → Int64 → Int32 → pM → Option (Int32 × pM))) (fun _ _ _ _ _ _ => none) (fun _ G => (fun v1 v2 v4 v6 v8 σ => if ¬ (v1 < 0 ∨ 116 ≤ Int32.toNatClampNeg v1) then (dz_l (σ.2.2.1 13 (Int32.toNatClampNeg v1)) fun x2 => if x2 ≤ v8 then (some (0, σ)) else (dz_l ((9 * v1) + v8) fun x3 => if ¬ (x3 < 0 ∨ 1044 ≤ Int32.toNatClampNeg x3) then (dz_l (σ.2.2.1 17 (Int32.toNatClampNeg x3)) fun x5 => dz_l (Int32.toInt64 x5) fun x6 => if ¬ x6 = 0 then (dz_l ((v6 + 1) / x6) fun x8 => dz_c (fnX1_sequence K v2 v4 x8 v6 σ) fun x9 s10 => dz_b (fnX1_common K x9 v6) fun x11 => if x11 = (1 : Int64) then (dz_l (v8 + 1) fun x12 => G v1 v2 v4 v6 x12 s10) else (some (9, s10))) else none) else none)) else none))
noncomputable def fnX1_wrongPair (K : Nat) (a0 : Int32) (a1 : Int64) (a2 : Int64) (σ : pM) : Option (Int32 × pM) := if ¬ (a0 < 0 ∨ 116 ≤ Int32.toNatClampNeg a0) then (dz_l (σ.2.2.1 8 (Int32.toNatClampNeg a0)) fun x2 => dz_l (Int32.toInt64 x2) fun x3 => dz_b (fnX1_signOf K ((a1 * a1) - (4 * a2)) x3) fun x4 => if x4 = (-1 : Int32) then (dz_b (fnX1_common K a2 x3) fun x5 => if x5 = (1 : Int64) then (dz_c (fnX1_sequence K a1 a2 (x3 + 1) x3 σ) fun x6 s7 => if x6 = (0 : Int64) then ((lfX1_wrongPair K K) a0 a1 a2 x3 0 s7) else (some (8, s7))) else (some (7, σ))) else (some (7, σ))) else none
set_option maxHeartbeats 4000000 in
set_option maxRecDepth 100000 in
theorem wlX1_wrongPair {p : Program} {l : Launch} {e : Env} {s : State} {m : MethodId} {below : List Frame} {meth : Method} {c : Code} {D : va_G} {cl : List vw_C} {ci : Nat} (hci : cl[ci]? = some (RX1, TX1, 35)) {h : Nat} {ad : Nat → Nat} {cA : Nat → ClassId} {A : Nat → Prop} (hA : ∀ q : Nat, s.heap.size ≤ q → A q) (hK : va_K D cl (mtys cA) s) (K : Nat) (res : (Int32 × pM)) (a0 : Int32) (a1 : Int64) (a2 : Int64) (hx : p.tables.exec = Jvm.exec) (hb : c.code = cX1_wrongPair) (hr : meth.sig.returnType = some .int) (hlocks : meth.locks = false) (hml : c.maxLocals = 9) (hown : s.vm.findClass RX1 = some m.cls) (hts : ∀ w ∈ lw_all, w.before ([.ref h, .int a0, .long a1, .long a2] : List Value).toArray s = true) : ∀ k : Nat, (∀ (v1 : Int32) (v2 : Int64) (v4 : Int64) (v6 : Int64) (v8 : Int32) (σ : pM) (H : Heap) (locs : List Loc), va_P D cl (mw ci h ad cA σ) H → va_D A (mw ci h ad cA σ) → va_S A s.heap H locs → ∀ (ls : Array Slot), lv_has ls 9 [(0, .ref h), (1, .int v1), (2, .long v2), (4, .long v4), (6, .long v6), (8, .int v8)] → (lfX1_wrongPair K k) v1 v2 v4 v6 v8 σ = some res → W p l e (headSpec (ws_ yX1_wrongPair cX1_wrongPair 9 (some .int)) ({ frames := 2, cells := 0, slots := 0, locals := 56 })).room s m ([.ref h, .int a0, .long a1, .long a2] : List Value).toArray below meth c H locs 0 0 (MQ below (mQi D cl ci h ad cA A res) ([.ref h, .int a0, .long a1, .long a2] : List Value).toArray s 0 0 A) (F0 m 67 ls [])) := by
  intro k
  induction k with
  | zero =>
    exact fun _ _ _ _ _ _ _ _ _ _ _ _ _ hf => (by cases hf)
  | succ k ih =>
    · intro v1 v2 v4 v6 v8 σ H locs hP hD hS ls hl hf
      have hf : (if ¬ (v1 < 0 ∨ 116 ≤ Int32.toNatClampNeg v1) then (dz_l (σ.2.2.1 13 (Int32.toNatClampNeg v1)) fun x2 => if x2 ≤ v8 then (some (0, σ)) else (dz_l ((9 * v1) + v8) fun x3 => if ¬ (x3 < 0 ∨ 1044 ≤ Int32.toNatClampNeg x3) then (dz_l (σ.2.2.1 17 (Int32.toNatClampNeg x3)) fun x5 => dz_l (Int32.toInt64 x5) fun x6 => if ¬ x6 = 0 then (dz_l ((v6 + 1) / x6) fun x8 => dz_c (fnX1_sequence K v2 v4 x8 v6 σ) fun x9 s10 => dz_b (fnX1_common K x9 v6) fun x11 => if x11 = (1 : Int64) then (dz_l (v8 + 1) fun x12 => (lfX1_wrongPair K k) v1 v2 v4 v6 x12 s10) else (some (9, s10))) else none) else none)) else none : Option (Int32 × pM)) = some res := hf
      refine lv_iload hx hb dX1_wrongPair_67 (lv_at hl 5 rfl) ?_
      refine lv_aload_n hx hb dX1_wrongPair_69 rfl (lv_at hl 0 rfl) ?_
      refine va_get (C := RX1) (T := TX1) (N := 35) (fs := mwF ad σ) (v := .ref (ad 13)) hx hb hts in_X1 hown hK hP 0 rfl hci 13 (by decide) (hts _ q1684) (fun _ hq => hq) rfl dX1_wrongPair_70 ?_
      refine lv_iload_n hx hb dX1_wrongPair_73 rfl (lv_at hl 1 rfl) ?_
      obtain ⟨g1, hf⟩ := dz_go hf
      refine va_iald hx hb hK hP 11 0 rfl rfl g1 dX1_wrongPair_74 ?_
      refine lv_topi (fun x2 e_x2 => ?_)
      have hf := dz_ls e_x2 hf
      refine lv_icmp_ge (tgt := 124) hx hb dX1_wrongPair_75 (by decide) (fun c75 => ?_) (fun c75 => ?_)
      · have hf := dz_t c75 hf
        refine lv_iconst (v := 0) hx hb dX1_wrongPair_124 (by decide) ?_
        exact W.iret (v := 0) hx hb hr (fun t ht hW => ⟨⟨0, σ, rfl, Option.some.inj hf, by rw [ht]; exact hP, va_K.moved hW.alike hK, hD⟩, hS.F ht⟩) hS.2.2 dX1_wrongPair_125
      · have hf := dz_f c75 hf
        refine lv_aload_n hx hb dX1_wrongPair_78 rfl (lv_at hl 0 rfl) ?_
        refine lv_lload_n hx hb dX1_wrongPair_79 rfl (lv_at hl 2 rfl) ?_
        refine lv_lload hx hb dX1_wrongPair_80 (lv_at hl 3 rfl) ?_
        refine lv_lload hx hb dX1_wrongPair_82 (lv_at hl 4 rfl) ?_
        refine lv_lconst (v := 1) hx hb dX1_wrongPair_84 rfl ?_
        refine lv_ladd hx hb dX1_wrongPair_85 ?_
        refine lv_aload_n hx hb dX1_wrongPair_86 rfl (lv_at hl 0 rfl) ?_
        refine va_get (C := RX1) (T := TX1) (N := 35) (fs := mwF ad σ) (v := .ref (ad 17)) hx hb hts in_X1 hown hK hP 0 rfl hci 17 (by decide) (hts _ q1688) (fun _ hq => hq) rfl dX1_wrongPair_87 ?_
        refine lv_bipush (v := 9) hx hb dX1_wrongPair_90 (by decide) ?_
        refine lv_iload_n hx hb dX1_wrongPair_92 rfl (lv_at hl 1 rfl) ?_
        refine lv_imul hx hb dX1_wrongPair_93 ?_
        refine lv_iload hx hb dX1_wrongPair_94 (lv_at hl 5 rfl) ?_
        refine lv_iadd hx hb dX1_wrongPair_96 ?_
        refine lv_topi (fun x3 e_x3 => ?_)
        have hf := dz_ls e_x3 hf
        obtain ⟨g4, hf⟩ := dz_go hf
        refine va_iald hx hb hK hP 15 0 rfl rfl g4 dX1_wrongPair_97 ?_
        refine lv_topi (fun x5 e_x5 => ?_)
        have hf := dz_ls e_x5 hf
        refine lv_i2l hx hb dX1_wrongPair_98 (rfl : _ = Int32.toInt64 x5) ?_
        refine lv_topl (fun x6 e_x6 => ?_)
        have hf := dz_ls e_x6 hf
        obtain ⟨g7, hf⟩ := dz_go hf
        refine lv_ldiv hx hb dX1_wrongPair_99 g7 ?_
        refine lv_topl (fun x8 e_x8 => ?_)
        have hf := dz_ls e_x8 hf
        refine lv_lload hx hb dX1_wrongPair_100 (lv_at hl 4 rfl) ?_
        obtain ⟨x9, s10, hx9, hf⟩ := dz_co hf
        have hFc := dz_free hD hS hA
        refine va_calll (va_runV (As := [.long v2, .long v4, .long x8, .long v6]) (rest := []) ⟨hx, hb, hml, hown, hts⟩ (mtX1_sequence l D cl ci hci h ad cA H.size σ v2 v4 x8 v6 K (x9, s10) hx9) (cwV 4 hts (lw_V q1863 q1865 qs46 q88 q1866) rfl rfl rfl (by decide +kernel) ⟨Nat.le_of_ble_eq_true rfl, Nat.le_of_ble_eq_true rfl⟩) (m_preV hci hK hP hD) rfl rfl hl.1 rfl (lv_room (Nat.le_of_ble_eq_true rfl)) dX1_wrongPair_102 ⟨Nat.le_refl _, Nat.le_refl _⟩) hS (fun q _ hq => hFc q hq) hFc (fun r u t H1 locs ht hvm hw hB hz hk hS => ?_)
        obtain ⟨hw1, hw2⟩ := Prod.mk.inj hw.symm; subst hw1; subst hw2
        replace hP := m_back ht hB
        replace hD := mw_D s10 hD
        clear hB hk hz hvm ht hFc; generalize H1 = H at hP hS ⊢
        refine lv_lload hx hb dX1_wrongPair_105 (lv_at hl 4 rfl) ?_
        obtain ⟨x11, hx11, hf⟩ := dz_bo hf
        refine va_calll (va_runS (As := [.long x9, .long v6]) (rest := []) ⟨hx, hb, hml, hown, hts⟩ (mtX1_common l x9 v6 K x11 hx11) (va_cwS 2 hts (lw_S q1837 q1838 q88 q1839) rfl rfl rfl (by decide +kernel) ⟨Nat.le_of_ble_eq_true rfl, Nat.le_of_ble_eq_true rfl⟩) ⟨fun a U g mk q => q, fun U hU hW => ⟨rfl, trivial⟩⟩ rfl rfl hl.1 rfl (lv_room (Nat.le_of_ble_eq_true rfl)) dX1_wrongPair_107 ⟨Nat.le_refl _, Nat.le_refl _⟩) hS (fun q _ hq => hq.elim) (fun q hq => hq.elim) (fun r u t H1 locs ht hvm hw hB hz hk hS => ?_)
        replace hw := hw.symm; subst hw
        replace hP := dz_keep hP hk
        clear hB hk hz hvm ht; generalize H1 = H at hP hS ⊢
        refine lv_lconst (v := 1) hx hb dX1_wrongPair_110 rfl ?_
        refine W.lcmp hx hb dX1_wrongPair_111 ?_
        refine lv_if_eq (tgt := 118) hx hb dX1_wrongPair_112 (by decide) (fun c112 => ?_) (fun c112 => ?_)
        · have c112 : x11 = (1 : Int64) := (lg_cmp_eq _ _).mp c112
          have hf := dz_t c112 hf
          obtain ⟨x12, e_x12, hf⟩ := dz_lo hf
          refine lv_iinc (v := x12) (lv' := [(8, .int x12), (0, .ref h), (1, .int v1), (2, .long v2), (4, .long v4), (6, .long v6)]) hx hb dX1_wrongPair_118 hl (k := 5) rfl (by rw [e_x12]; rfl) (by decide) rfl (fun ls hl => ?_)
          refine lv_goto (tgt := 67) hx hb dX1_wrongPair_121 (by decide) ?_
          exact ih v1 v2 v4 v6 x12 s10 H locs hP hD hS ls (lv_sub hl [1, 2, 3, 4, 5, 0] rfl) hf
        · have c112 : ¬ x11 = (1 : Int64) := fun hq => c112 ((lg_cmp_eq _ _).mpr hq)
          have hf := dz_f c112 hf
          refine lv_bipush (v := 9) hx hb dX1_wrongPair_115 (by decide) ?_
          exact W.iret (v := 9) hx hb hr (fun t ht hW => ⟨⟨9, s10, rfl, Option.some.inj hf, by rw [ht]; exact hP, va_K.moved hW.alike hK, hD⟩, hS.F ht⟩) hS.2.2 dX1_wrongPair_117
set_option maxHeartbeats 4000000 in
set_option maxRecDepth 100000 in
theorem mtX1_wrongPair (l : Launch) (D : va_G) (cl : List vw_C) (ci : Nat) (hci : cl[ci]? = some (RX1, TX1, 35)) (h : Nat) (ad : Nat → Nat) (cA : Nat → ClassId) (sz : Nat) (σ : pM) (a0 : Int32) (a1 : Int64) (a2 : Int64) (K : Nat) (res : (Int32 × pM)) (hf : fnX1_wrongPair K a0 a1 a2 σ = some res) : Met l yX1_wrongPair (ws_ yX1_wrongPair cX1_wrongPair 9 (some .int)) ({ frames := 2, cells := 0, slots := 0, locals := 56 }) (mPc D cl ci h ad cA sz σ [.ref h, .int a0, .long a1, .long a2]) (mQi D cl ci h ad cA (va_A (mw ci h ad cA σ) sz) res) 0 0 (va_A (mw ci h ad cA σ) sz) := by
  refine Met.ofW (cc := cX1_wrongPair) (maxL := 9) (ret := some .int) (by decide +kernel) rfl ?_
  intro p e s m args below meth c s₁ B hml hv
  obtain ⟨rfl, hsz, hP, hK, hD0⟩ := hv
  have hx := B.exec
  have hb := B.bytes
  have hr := B.returns
  have hts := atoms_spec (ws := ws_ yX1_wrongPair cX1_wrongPair 9 (some .int)) B.pre
  have hts : ∀ w ∈ lw_all, w.before _ s = true := fun w h => hts w (List.mem_cons_of_mem _ h)
  have hown : s.vm.findClass RX1 = some m.cls := findClass_of_methodNamed B.named
  have hlocks := B.notSynchronized
  subst hsz
  have hD := hD0.self (sz := s.heap.size)
  generalize hAe : va_A (mw ci h ad cA σ) s.heap.size = A at hD ⊢
  have hA : ∀ q : Nat, s.heap.size ≤ q → A q := fun q h => by rw [← hAe]; exact Or.inr h
  clear hAe hD0
  have hS : va_S A s.heap s.heap [] := va_S.rf
  generalize hHe : s.heap = H at hP hS ⊢
  have hS : va_S A s.heap H [] := by rw [hHe]; exact hS
  generalize ([] : List Loc) = locs at hS ⊢
  have hl := lv_entry ([.ref h, .int a0, .long a1, .long a2]) (n := 9) (Nat.le_of_ble_eq_true rfl)
  rw [lg_entry_eq]
  generalize (lg_sl ([.ref h, .int a0, .long a1, .long a2]) ++ List.replicate (9 - (lg_sl ([.ref h, .int a0, .long a1, .long a2])).length) Slot.unset).toArray = ls at hl ⊢
  have hl : lv_has ls 9 [(0, .ref h), (1, .int a0), (2, .long a1), (4, .long a2)] := hl
  have hf : (if ¬ (a0 < 0 ∨ 116 ≤ Int32.toNatClampNeg a0) then (dz_l (σ.2.2.1 8 (Int32.toNatClampNeg a0)) fun x2 => dz_l (Int32.toInt64 x2) fun x3 => dz_b (fnX1_signOf K ((a1 * a1) - (4 * a2)) x3) fun x4 => if x4 = (-1 : Int32) then (dz_b (fnX1_common K a2 x3) fun x5 => if x5 = (1 : Int64) then (dz_c (fnX1_sequence K a1 a2 (x3 + 1) x3 σ) fun x6 s7 => if x6 = (0 : Int64) then ((lfX1_wrongPair K K) a0 a1 a2 x3 0 s7) else (some (8, s7))) else (some (7, σ))) else (some (7, σ))) else none : Option (Int32 × pM)) = some res := hf
  have ih := wlX1_wrongPair (l := l) (e := e) (below := below) (h := h) (ad := ad) (cA := cA) hci hA hK K res a0 a1 a2 hx hb hr hlocks hml hown hts K
  refine lv_aload_n hx hb dX1_wrongPair_0 rfl (lv_at hl 0 rfl) ?_
  refine va_get (C := RX1) (T := TX1) (N := 35) (fs := mwF ad σ) (v := .ref (ad 8)) hx hb hts in_X1 hown hK hP 0 rfl hci 8 (by decide) (hts _ q1679) (fun _ hq => hq) rfl dX1_wrongPair_1 ?_
  refine lv_iload_n hx hb dX1_wrongPair_4 rfl (lv_at hl 1 rfl) ?_
  obtain ⟨g1, hf⟩ := dz_go hf
  refine va_iald hx hb hK hP 6 0 rfl rfl g1 dX1_wrongPair_5 ?_
  refine lv_topi (fun x2 e_x2 => ?_)
  have hf := dz_ls e_x2 hf
  refine lv_i2l hx hb dX1_wrongPair_6 (rfl : _ = Int32.toInt64 x2) ?_
  refine lv_topl (fun x3 e_x3 => ?_)
  have hf := dz_ls e_x3 hf
  refine lv_lstore (lv' := [(6, .long x3), (0, .ref h), (1, .int a0), (2, .long a1), (4, .long a2)]) hx hb dX1_wrongPair_7 hl (by decide) rfl (fun ls hl => ?_)
  refine lv_lload_n hx hb dX1_wrongPair_9 rfl (lv_at hl 3 rfl) ?_
  refine lv_lload_n hx hb dX1_wrongPair_10 rfl (lv_at hl 3 rfl) ?_
  refine lv_lmul hx hb dX1_wrongPair_11 ?_
  refine lv_ldc2 (v := 4) hx hb hown (hts _ q1782) dX1_wrongPair_12 ?_
  refine lv_lload hx hb dX1_wrongPair_15 (lv_at hl 4 rfl) ?_
  refine lv_lmul hx hb dX1_wrongPair_17 ?_
  refine lv_lsub hx hb dX1_wrongPair_18 ?_
  refine lv_lload hx hb dX1_wrongPair_19 (lv_at hl 0 rfl) ?_
  obtain ⟨x4, hx4, hf⟩ := dz_bo hf
  refine va_calli (va_runS (As := [.long ((a1 * a1) - (4 * a2)), .long x3]) (rest := []) ⟨hx, hb, hml, hown, hts⟩ (mtX1_signOf l ((a1 * a1) - (4 * a2)) x3 K x4 hx4) (va_cwS 2 hts (lw_S q1857 q1858 q88 q1859) rfl rfl rfl (by decide +kernel) ⟨Nat.le_of_ble_eq_true rfl, Nat.le_of_ble_eq_true rfl⟩) ⟨fun a U g mk q => q, fun U hU hW => ⟨rfl, trivial⟩⟩ rfl rfl hl.1 rfl (lv_room (Nat.le_of_ble_eq_true rfl)) dX1_wrongPair_21 ⟨Nat.le_refl _, Nat.le_refl _⟩) hS (fun q _ hq => hq.elim) (fun q hq => hq.elim) (fun r u t H1 locs ht hvm hw hB hz hk hS => ?_)
  replace hw := hw.symm; subst hw
  replace hP := dz_keep hP hk
  clear hB hk hz hvm ht; generalize H1 = H at hP hS ⊢
  refine lv_iconst (v := (-1)) hx hb dX1_wrongPair_24 (by decide) ?_
  refine lv_icmp_ne (tgt := 40) hx hb dX1_wrongPair_25 (by decide) (fun c25 => ?_) (fun c25 => ?_)
  · have hf := dz_f c25 hf
    refine lv_bipush (v := 7) hx hb dX1_wrongPair_40 (by decide) ?_
    exact W.iret (v := 7) hx hb hr (fun t ht hW => ⟨⟨7, σ, rfl, Option.some.inj hf, by rw [ht]; exact hP, va_K.moved hW.alike hK, hD⟩, hS.F ht⟩) hS.2.2 dX1_wrongPair_42
  · have hf := dz_t c25 hf
    refine lv_lload hx hb dX1_wrongPair_28 (lv_at hl 4 rfl) ?_
    refine lv_lload hx hb dX1_wrongPair_30 (lv_at hl 0 rfl) ?_
    obtain ⟨x5, hx5, hf⟩ := dz_bo hf
    refine va_calll (va_runS (As := [.long a2, .long x3]) (rest := []) ⟨hx, hb, hml, hown, hts⟩ (mtX1_common l a2 x3 K x5 hx5) (va_cwS 2 hts (lw_S q1837 q1838 q88 q1839) rfl rfl rfl (by decide +kernel) ⟨Nat.le_of_ble_eq_true rfl, Nat.le_of_ble_eq_true rfl⟩) ⟨fun a U g mk q => q, fun U hU hW => ⟨rfl, trivial⟩⟩ rfl rfl hl.1 rfl (lv_room (Nat.le_of_ble_eq_true rfl)) dX1_wrongPair_32 ⟨Nat.le_refl _, Nat.le_refl _⟩) hS (fun q _ hq => hq.elim) (fun q hq => hq.elim) (fun r u t H1 locs ht hvm hw hB hz hk hS => ?_)
    replace hw := hw.symm; subst hw
    replace hP := dz_keep hP hk
    clear hB hk hz hvm ht; generalize H1 = H at hP hS ⊢
    refine lv_lconst (v := 1) hx hb dX1_wrongPair_35 rfl ?_
    refine W.lcmp hx hb dX1_wrongPair_36 ?_
    refine lv_if_eq (tgt := 43) hx hb dX1_wrongPair_37 (by decide) (fun c37 => ?_) (fun c37 => ?_)
    · have c37 : x5 = (1 : Int64) := (lg_cmp_eq _ _).mp c37
      have hf := dz_t c37 hf
      refine lv_aload_n hx hb dX1_wrongPair_43 rfl (lv_at hl 1 rfl) ?_
      refine lv_lload_n hx hb dX1_wrongPair_44 rfl (lv_at hl 3 rfl) ?_
      refine lv_lload hx hb dX1_wrongPair_45 (lv_at hl 4 rfl) ?_
      refine lv_lload hx hb dX1_wrongPair_47 (lv_at hl 0 rfl) ?_
      refine lv_lconst (v := 1) hx hb dX1_wrongPair_49 rfl ?_
      refine lv_ladd hx hb dX1_wrongPair_50 ?_
      refine lv_lload hx hb dX1_wrongPair_51 (lv_at hl 0 rfl) ?_
      obtain ⟨x6, s7, hx6, hf⟩ := dz_co hf
      have hFc := dz_free hD hS hA
      refine va_calll (va_runV (As := [.long a1, .long a2, .long (x3 + 1), .long x3]) (rest := []) ⟨hx, hb, hml, hown, hts⟩ (mtX1_sequence l D cl ci hci h ad cA H.size σ a1 a2 (x3 + 1) x3 K (x6, s7) hx6) (cwV 4 hts (lw_V q1863 q1865 qs46 q88 q1866) rfl rfl rfl (by decide +kernel) ⟨Nat.le_of_ble_eq_true rfl, Nat.le_of_ble_eq_true rfl⟩) (m_preV hci hK hP hD) rfl rfl hl.1 rfl (lv_room (Nat.le_of_ble_eq_true rfl)) dX1_wrongPair_53 ⟨Nat.le_refl _, Nat.le_refl _⟩) hS (fun q _ hq => hFc q hq) hFc (fun r u t H1 locs ht hvm hw hB hz hk hS => ?_)
      obtain ⟨hw1, hw2⟩ := Prod.mk.inj hw.symm; subst hw1; subst hw2
      replace hP := m_back ht hB
      replace hD := mw_D s7 hD
      clear hB hk hz hvm ht hFc; generalize H1 = H at hP hS ⊢
      refine lv_lconst (v := 0) hx hb dX1_wrongPair_56 rfl ?_
      refine W.lcmp hx hb dX1_wrongPair_57 ?_
      refine lv_if_eq (tgt := 64) hx hb dX1_wrongPair_58 (by decide) (fun c58 => ?_) (fun c58 => ?_)
      · have c58 : x6 = (0 : Int64) := (lg_cmp_eq _ _).mp c58
        have hf := dz_t c58 hf
        refine lv_iconst (v := 0) hx hb dX1_wrongPair_64 (by decide) ?_
        refine lv_istore (lv' := [(8, .int 0), (6, .long x3), (0, .ref h), (1, .int a0), (2, .long a1), (4, .long a2)]) hx hb dX1_wrongPair_65 hl (by decide) rfl (fun ls hl => ?_)
        exact ih a0 a1 a2 x3 0 s7 H locs hP hD hS ls (lv_sub hl [2, 3, 4, 5, 1, 0] rfl) hf
      · have c58 : ¬ x6 = (0 : Int64) := fun hq => c58 ((lg_cmp_eq _ _).mpr hq)
        have hf := dz_f c58 hf
        refine lv_bipush (v := 8) hx hb dX1_wrongPair_61 (by decide) ?_
        exact W.iret (v := 8) hx hb hr (fun t ht hW => ⟨⟨8, s7, rfl, Option.some.inj hf, by rw [ht]; exact hP, va_K.moved hW.alike hK, hD⟩, hS.F ht⟩) hS.2.2 dX1_wrongPair_63
    · have c37 : ¬ x5 = (1 : Int64) := fun hq => c37 ((lg_cmp_eq _ _).mpr hq)
      have hf := dz_f c37 hf
      refine lv_bipush (v := 7) hx hb dX1_wrongPair_40 (by decide) ?_
      exact W.iret (v := 7) hx hb hr (fun t ht hW => ⟨⟨7, σ, rfl, Option.some.inj hf, by rw [ht]; exact hP, va_K.moved hW.alike hK, hD⟩, hS.F ht⟩) hS.2.2 dX1_wrongPair_42

noncomputable def lfX1_laysPair (K : Nat) : Nat → (Int32 → Int32 → pM → Option (Int32 × pM)) × (Int32 → Int32 → Int32 → pM → Option (Int32 × pM)) := Nat.rec (motive := fun _ => (Int32 → Int32 → pM → Option (Int32 × pM)) × (Int32 → Int32 → Int32 → pM → Option (Int32 × pM))) ((fun _ _ _ => none), (fun _ _ _ _ => none)) (fun _ G => ((fun v1 v2 σ => if (99 : Int32) < v2 then (some (0, σ)) else (G.2 v1 v2 1 σ)), (fun v1 v2 v3 σ => if (99 : Int32) < v3 then (dz_l (v2 + 1) fun x1 => G.1 v1 x1 σ) else (dz_c (fnX1_wrongPair K v1 (Int32.toInt64 v2) (Int32.toInt64 v3) σ) fun x2 s3 => if x2 = (0 : Int32) then (if ¬ (v1 < 0 ∨ 116 ≤ Int32.toNatClampNeg v1) then (dz_l (mI s3 10 (Int32.toNatClampNeg v1) v2) fun s5 => if ¬ (v1 < 0 ∨ 116 ≤ Int32.toNatClampNeg v1) then (dz_l (mI s5 11 (Int32.toNatClampNeg v1) v3) fun s7 => some (1, s7)) else none) else none) else (dz_l (v3 + 1) fun x8 => G.2 v1 v2 x8 s3)))))
noncomputable def fnX1_laysPair (K : Nat) (a0 : Int32) (σ : pM) : Option (Int32 × pM) := (lfX1_laysPair K K).1 a0 1 σ
set_option maxHeartbeats 4000000 in
set_option maxRecDepth 100000 in
theorem wlX1_laysPair {p : Program} {l : Launch} {e : Env} {s : State} {m : MethodId} {below : List Frame} {meth : Method} {c : Code} {D : va_G} {cl : List vw_C} {ci : Nat} (hci : cl[ci]? = some (RX1, TX1, 35)) {h : Nat} {ad : Nat → Nat} {cA : Nat → ClassId} {A : Nat → Prop} (hA : ∀ q : Nat, s.heap.size ≤ q → A q) (hK : va_K D cl (mtys cA) s) (K : Nat) (res : (Int32 × pM)) (a0 : Int32) (hx : p.tables.exec = Jvm.exec) (hb : c.code = cX1_laysPair) (hr : meth.sig.returnType = some .boolean) (hlocks : meth.locks = false) (hml : c.maxLocals = 4) (hown : s.vm.findClass RX1 = some m.cls) (hts : ∀ w ∈ lw_all, w.before ([.ref h, .int a0] : List Value).toArray s = true) : ∀ k : Nat, (∀ (v1 : Int32) (v2 : Int32) (σ : pM) (H : Heap) (locs : List Loc), va_P D cl (mw ci h ad cA σ) H → va_D A (mw ci h ad cA σ) → va_S A s.heap H locs → ∀ (ls : Array Slot), lv_has ls 4 [(0, .ref h), (1, .int v1), (2, .int v2)] → (lfX1_laysPair K k).1 v1 v2 σ = some res → W p l e (headSpec (ws_ yX1_laysPair cX1_laysPair 4 (some .boolean)) ({ frames := 3, cells := 0, slots := 0, locals := 84 })).room s m ([.ref h, .int a0] : List Value).toArray below meth c H locs 0 0 (MQ below (mQi D cl ci h ad cA A res) ([.ref h, .int a0] : List Value).toArray s 0 0 A) (F0 m 2 ls [])) ∧ (∀ (v1 : Int32) (v2 : Int32) (v3 : Int32) (σ : pM) (H : Heap) (locs : List Loc), va_P D cl (mw ci h ad cA σ) H → va_D A (mw ci h ad cA σ) → va_S A s.heap H locs → ∀ (ls : Array Slot), lv_has ls 4 [(0, .ref h), (1, .int v1), (2, .int v2), (3, .int v3)] → (lfX1_laysPair K k).2 v1 v2 v3 σ = some res → W p l e (headSpec (ws_ yX1_laysPair cX1_laysPair 4 (some .boolean)) ({ frames := 3, cells := 0, slots := 0, locals := 84 })).room s m ([.ref h, .int a0] : List Value).toArray below meth c H locs 0 0 (MQ below (mQi D cl ci h ad cA A res) ([.ref h, .int a0] : List Value).toArray s 0 0 A) (F0 m 10 ls [])) := by
  intro k
  induction k with
  | zero =>
    exact ⟨fun _ _ _ _ _ _ _ _ _ _ hf => (by cases hf), fun _ _ _ _ _ _ _ _ _ _ _ hf => (by cases hf)⟩
  | succ k ih =>
    refine ⟨?_, ?_⟩
    · intro v1 v2 σ H locs hP hD hS ls hl hf
      have hf : (if (99 : Int32) < v2 then (some (0, σ)) else ((lfX1_laysPair K k).2 v1 v2 1 σ) : Option (Int32 × pM)) = some res := hf
      refine lv_iload_n hx hb dX1_laysPair_2 rfl (lv_at hl 2 rfl) ?_
      refine lv_bipush (v := 99) hx hb dX1_laysPair_3 (by decide) ?_
      refine lv_icmp_gt (tgt := 59) hx hb dX1_laysPair_5 (by decide) (fun c5 => ?_) (fun c5 => ?_)
      · have hf := dz_t c5 hf
        refine lv_iconst (v := 0) hx hb dX1_laysPair_59 (by decide) ?_
        exact W.zret (v := 0) hx hb hr rfl (fun t ht hW => ⟨⟨0, σ, rfl, Option.some.inj hf, by rw [ht]; exact hP, va_K.moved hW.alike hK, hD⟩, hS.F ht⟩) hS.2.2 dX1_laysPair_60
      · have hf := dz_f c5 hf
        refine lv_iconst (v := 1) hx hb dX1_laysPair_8 (by decide) ?_
        refine lv_istore_n (lv' := [(3, .int 1), (0, .ref h), (1, .int v1), (2, .int v2)]) hx hb dX1_laysPair_9 rfl hl (by decide) rfl (fun ls hl => ?_)
        exact ih.2 v1 v2 1 σ H locs hP hD hS ls (lv_sub hl [1, 2, 3, 0] rfl) hf
    · intro v1 v2 v3 σ H locs hP hD hS ls hl hf
      have hf : (if (99 : Int32) < v3 then (dz_l (v2 + 1) fun x1 => (lfX1_laysPair K k).1 v1 x1 σ) else (dz_c (fnX1_wrongPair K v1 (Int32.toInt64 v2) (Int32.toInt64 v3) σ) fun x2 s3 => if x2 = (0 : Int32) then (if ¬ (v1 < 0 ∨ 116 ≤ Int32.toNatClampNeg v1) then (dz_l (mI s3 10 (Int32.toNatClampNeg v1) v2) fun s5 => if ¬ (v1 < 0 ∨ 116 ≤ Int32.toNatClampNeg v1) then (dz_l (mI s5 11 (Int32.toNatClampNeg v1) v3) fun s7 => some (1, s7)) else none) else none) else (dz_l (v3 + 1) fun x8 => (lfX1_laysPair K k).2 v1 v2 x8 s3)) : Option (Int32 × pM)) = some res := hf
      refine lv_iload_n hx hb dX1_laysPair_10 rfl (lv_at hl 3 rfl) ?_
      refine lv_bipush (v := 99) hx hb dX1_laysPair_11 (by decide) ?_
      refine lv_icmp_gt (tgt := 53) hx hb dX1_laysPair_13 (by decide) (fun c13 => ?_) (fun c13 => ?_)
      · have hf := dz_t c13 hf
        obtain ⟨x1, e_x1, hf⟩ := dz_lo hf
        refine lv_iinc (v := x1) (lv' := [(2, .int x1), (0, .ref h), (1, .int v1), (3, .int v3)]) hx hb dX1_laysPair_53 hl (k := 2) rfl (by rw [e_x1]; rfl) (by decide) rfl (fun ls hl => ?_)
        refine lv_goto (tgt := 2) hx hb dX1_laysPair_56 (by decide) ?_
        exact ih.1 v1 x1 σ H locs hP hD hS ls (lv_sub hl [1, 2, 0] rfl) hf
      · have hf := dz_f c13 hf
        refine lv_aload_n hx hb dX1_laysPair_16 rfl (lv_at hl 0 rfl) ?_
        refine lv_iload_n hx hb dX1_laysPair_17 rfl (lv_at hl 1 rfl) ?_
        refine lv_iload_n hx hb dX1_laysPair_18 rfl (lv_at hl 2 rfl) ?_
        refine lv_i2l hx hb dX1_laysPair_19 (rfl : _ = Int32.toInt64 v2) ?_
        refine lv_iload_n hx hb dX1_laysPair_20 rfl (lv_at hl 3 rfl) ?_
        refine lv_i2l hx hb dX1_laysPair_21 (rfl : _ = Int32.toInt64 v3) ?_
        obtain ⟨x2, s3, hx2, hf⟩ := dz_co hf
        have hFc := dz_free hD hS hA
        refine va_calli (va_runV (As := [.int v1, .long (Int32.toInt64 v2), .long (Int32.toInt64 v3)]) (rest := []) ⟨hx, hb, hml, hown, hts⟩ (mtX1_wrongPair l D cl ci hci h ad cA H.size σ v1 (Int32.toInt64 v2) (Int32.toInt64 v3) K (x2, s3) hx2) (cwV 3 hts (lw_V q1853 q1855 qs45 q88 q1856) rfl rfl rfl (by decide +kernel) ⟨Nat.le_of_ble_eq_true rfl, Nat.le_of_ble_eq_true rfl⟩) (m_preV hci hK hP hD) rfl rfl hl.1 rfl (lv_room (Nat.le_of_ble_eq_true rfl)) dX1_laysPair_22 ⟨Nat.le_refl _, Nat.le_refl _⟩) hS (fun q _ hq => hFc q hq) hFc (fun r u t H1 locs ht hvm hw hB hz hk hS => ?_)
        obtain ⟨hw1, hw2⟩ := Prod.mk.inj hw.symm; subst hw1; subst hw2
        replace hP := m_back ht hB
        replace hD := mw_D s3 hD
        clear hB hk hz hvm ht hFc; generalize H1 = H at hP hS ⊢
        refine lv_if_eq (tgt := 31) hx hb dX1_laysPair_25 (by decide) (fun c25 => ?_) (fun c25 => ?_)
        · have hf := dz_t c25 hf
          refine lv_aload_n hx hb dX1_laysPair_31 rfl (lv_at hl 0 rfl) ?_
          refine va_get (C := RX1) (T := TX1) (N := 35) (fs := mwF ad s3) (v := .ref (ad 10)) hx hb hts in_X1 hown hK hP 0 rfl hci 10 (by decide) (hts _ q1681) (fun _ hq => hq) rfl dX1_laysPair_32 ?_
          refine lv_iload_n hx hb dX1_laysPair_35 rfl (lv_at hl 1 rfl) ?_
          refine lv_iload_n hx hb dX1_laysPair_36 rfl (lv_at hl 2 rfl) ?_
          obtain ⟨g4, hf⟩ := dz_go hf
          refine va_iast hx hb hK hP hD hS 8 0 rfl rfl g4 dX1_laysPair_37 (fun H locs hP1 _ hS => ?_)
          obtain ⟨s5, e_s5, hf⟩ := dz_lo hf
          have hP : va_P D cl (mw ci h ad cA s5) H := by rw [e_s5]; exact hP1
          clear hP1; replace hD := mw_D s5 hD
          refine lv_aload_n hx hb dX1_laysPair_38 rfl (lv_at hl 0 rfl) ?_
          refine va_get (C := RX1) (T := TX1) (N := 35) (fs := mwF ad s5) (v := .ref (ad 11)) hx hb hts in_X1 hown hK hP 0 rfl hci 11 (by decide) (hts _ q1682) (fun _ hq => hq) rfl dX1_laysPair_39 ?_
          refine lv_iload_n hx hb dX1_laysPair_42 rfl (lv_at hl 1 rfl) ?_
          refine lv_iload_n hx hb dX1_laysPair_43 rfl (lv_at hl 3 rfl) ?_
          obtain ⟨g6, hf⟩ := dz_go hf
          refine va_iast hx hb hK hP hD hS 9 0 rfl rfl g6 dX1_laysPair_44 (fun H locs hP1 _ hS => ?_)
          obtain ⟨s7, e_s7, hf⟩ := dz_lo hf
          have hP : va_P D cl (mw ci h ad cA s7) H := by rw [e_s7]; exact hP1
          clear hP1; replace hD := mw_D s7 hD
          refine lv_iconst (v := 1) hx hb dX1_laysPair_45 (by decide) ?_
          exact W.zret (v := 1) hx hb hr rfl (fun t ht hW => ⟨⟨1, s7, rfl, Option.some.inj hf, by rw [ht]; exact hP, va_K.moved hW.alike hK, hD⟩, hS.F ht⟩) hS.2.2 dX1_laysPair_46
        · have hf := dz_f c25 hf
          refine lv_goto (tgt := 47) hx hb dX1_laysPair_28 (by decide) ?_
          obtain ⟨x8, e_x8, hf⟩ := dz_lo hf
          refine lv_iinc (v := x8) (lv' := [(3, .int x8), (0, .ref h), (1, .int v1), (2, .int v2)]) hx hb dX1_laysPair_47 hl (k := 3) rfl (by rw [e_x8]; rfl) (by decide) rfl (fun ls hl => ?_)
          refine lv_goto (tgt := 10) hx hb dX1_laysPair_50 (by decide) ?_
          exact ih.2 v1 v2 x8 s3 H locs hP hD hS ls (lv_sub hl [1, 2, 3, 0] rfl) hf
set_option maxHeartbeats 4000000 in
set_option maxRecDepth 100000 in
theorem mtX1_laysPair (l : Launch) (D : va_G) (cl : List vw_C) (ci : Nat) (hci : cl[ci]? = some (RX1, TX1, 35)) (h : Nat) (ad : Nat → Nat) (cA : Nat → ClassId) (sz : Nat) (σ : pM) (a0 : Int32) (K : Nat) (res : (Int32 × pM)) (hf : fnX1_laysPair K a0 σ = some res) : Met l yX1_laysPair (ws_ yX1_laysPair cX1_laysPair 4 (some .boolean)) ({ frames := 3, cells := 0, slots := 0, locals := 84 }) (mPc D cl ci h ad cA sz σ [.ref h, .int a0]) (mQi D cl ci h ad cA (va_A (mw ci h ad cA σ) sz) res) 0 0 (va_A (mw ci h ad cA σ) sz) := by
  refine Met.ofW (cc := cX1_laysPair) (maxL := 4) (ret := some .boolean) (by decide +kernel) rfl ?_
  intro p e s m args below meth c s₁ B hml hv
  obtain ⟨rfl, hsz, hP, hK, hD0⟩ := hv
  have hx := B.exec
  have hb := B.bytes
  have hr := B.returns
  have hts := atoms_spec (ws := ws_ yX1_laysPair cX1_laysPair 4 (some .boolean)) B.pre
  have hts : ∀ w ∈ lw_all, w.before _ s = true := fun w h => hts w (List.mem_cons_of_mem _ h)
  have hown : s.vm.findClass RX1 = some m.cls := findClass_of_methodNamed B.named
  have hlocks := B.notSynchronized
  subst hsz
  have hD := hD0.self (sz := s.heap.size)
  generalize hAe : va_A (mw ci h ad cA σ) s.heap.size = A at hD ⊢
  have hA : ∀ q : Nat, s.heap.size ≤ q → A q := fun q h => by rw [← hAe]; exact Or.inr h
  clear hAe hD0
  have hS : va_S A s.heap s.heap [] := va_S.rf
  generalize hHe : s.heap = H at hP hS ⊢
  have hS : va_S A s.heap H [] := by rw [hHe]; exact hS
  generalize ([] : List Loc) = locs at hS ⊢
  have hl := lv_entry ([.ref h, .int a0]) (n := 4) (Nat.le_of_ble_eq_true rfl)
  rw [lg_entry_eq]
  generalize (lg_sl ([.ref h, .int a0]) ++ List.replicate (4 - (lg_sl ([.ref h, .int a0])).length) Slot.unset).toArray = ls at hl ⊢
  have hl : lv_has ls 4 [(0, .ref h), (1, .int a0)] := hl
  have hf : ((lfX1_laysPair K K).1 a0 1 σ : Option (Int32 × pM)) = some res := hf
  have ih := wlX1_laysPair (l := l) (e := e) (below := below) (h := h) (ad := ad) (cA := cA) hci hA hK K res a0 hx hb hr hlocks hml hown hts K
  refine lv_iconst (v := 1) hx hb dX1_laysPair_0 (by decide) ?_
  refine lv_istore_n (lv' := [(2, .int 1), (0, .ref h), (1, .int a0)]) hx hb dX1_laysPair_1 rfl hl (by decide) rfl (fun ls hl => ?_)
  exact ih.1 a0 1 σ H locs hP hD hS ls (lv_sub hl [1, 2, 0] rfl) hf

noncomputable def lfX1_works (K : Nat) : Nat → (pM → Option (Int32 × pM)) := Nat.rec (motive := fun _ => (pM → Option (Int32 × pM))) (fun _ => none) (fun _ G => (fun σ => some (1, σ)))
noncomputable def fnX1_works (K : Nat) (a0 : Int32) (a1 : Int32) (σ : pM) : Option (Int32 × pM) := dz_b (fnX1_begins K 115 a0 a1 σ) fun s2 => dz_b (fnX1_isPrime K (Int32.toInt64 a0)) fun x3 => if x3 = (0 : Int32) then (some (0, s2)) else (if a1 = (0 : Int32) then (if (100 : Int32) ≤ a0 then (some (0, s2)) else (some (1, s2))) else (if a0 = (2 : Int32) then (some (0, s2)) else (dz_b (fnX1_laysRows K 115 s2) fun s5 => dz_c (fnX1_laysBases K 115 s5) fun x6 s7 => if x6 = (0 : Int32) then (some (0, s7)) else (dz_b (fnX1_hasPair K a1) fun x8 => if x8 = (0 : Int32) then ((lfX1_works K K) s7) else (dz_c (fnX1_laysPair K 115 s7) fun x9 s10 => if x9 = (0 : Int32) then (some (0, s10)) else ((lfX1_works K K) s10))))))
set_option maxHeartbeats 4000000 in
set_option maxRecDepth 100000 in
theorem wlX1_works {p : Program} {l : Launch} {e : Env} {s : State} {m : MethodId} {below : List Frame} {meth : Method} {c : Code} {D : va_G} {cl : List vw_C} {ci : Nat} (hci : cl[ci]? = some (RX1, TX1, 35)) {h : Nat} {ad : Nat → Nat} {cA : Nat → ClassId} {A : Nat → Prop} (hA : ∀ q : Nat, s.heap.size ≤ q → A q) (hK : va_K D cl (mtys cA) s) (K : Nat) (res : (Int32 × pM)) (a0 : Int32) (a1 : Int32) (hx : p.tables.exec = Jvm.exec) (hb : c.code = cX1_works) (hr : meth.sig.returnType = some .boolean) (hlocks : meth.locks = false) (hml : c.maxLocals = 3) (hown : s.vm.findClass RX1 = some m.cls) (hts : ∀ w ∈ lw_all, w.before ([.ref h, .int a0, .int a1] : List Value).toArray s = true) : ∀ k : Nat, (∀  (σ : pM) (H : Heap) (locs : List Loc), va_P D cl (mw ci h ad cA σ) H → va_D A (mw ci h ad cA σ) → va_S A s.heap H locs → ∀ (ls : Array Slot), lv_has ls 3 [] → (lfX1_works K k) σ = some res → W p l e (headSpec (ws_ yX1_works cX1_works 3 (some .boolean)) ({ frames := 5, cells := 0, slots := 0, locals := 131 })).room s m ([.ref h, .int a0, .int a1] : List Value).toArray below meth c H locs 0 0 (MQ below (mQi D cl ci h ad cA A res) ([.ref h, .int a0, .int a1] : List Value).toArray s 0 0 A) (F0 m 72 ls [])) := by
  intro k
  induction k with
  | zero =>
    exact fun _ _ _ _ _ _ _ _ hf => (by cases hf)
  | succ k ih =>
    · intro σ H locs hP hD hS ls hl hf
      have hf : (some (1, σ) : Option (Int32 × pM)) = some res := hf
      refine lv_iconst (v := 1) hx hb dX1_works_72 (by decide) ?_
      refine lv_goto (tgt := 77) hx hb dX1_works_73 (by decide) ?_
      exact W.zret (v := 1) hx hb hr rfl (fun t ht hW => ⟨⟨1, σ, rfl, Option.some.inj hf, by rw [ht]; exact hP, va_K.moved hW.alike hK, hD⟩, hS.F ht⟩) hS.2.2 dX1_works_77
set_option maxHeartbeats 4000000 in
set_option maxRecDepth 100000 in
theorem mtX1_works (l : Launch) (D : va_G) (cl : List vw_C) (ci : Nat) (hci : cl[ci]? = some (RX1, TX1, 35)) (h : Nat) (ad : Nat → Nat) (cA : Nat → ClassId) (sz : Nat) (σ : pM) (a0 : Int32) (a1 : Int32) (K : Nat) (res : (Int32 × pM)) (hf : fnX1_works K a0 a1 σ = some res) : Met l yX1_works (ws_ yX1_works cX1_works 3 (some .boolean)) ({ frames := 5, cells := 0, slots := 0, locals := 131 }) (mPc D cl ci h ad cA sz σ [.ref h, .int a0, .int a1]) (mQi D cl ci h ad cA (va_A (mw ci h ad cA σ) sz) res) 0 0 (va_A (mw ci h ad cA σ) sz) := by
  refine Met.ofW (cc := cX1_works) (maxL := 3) (ret := some .boolean) (by decide +kernel) rfl ?_
  intro p e s m args below meth c s₁ B hml hv
  obtain ⟨rfl, hsz, hP, hK, hD0⟩ := hv
  have hx := B.exec
  have hb := B.bytes
  have hr := B.returns
  have hts := atoms_spec (ws := ws_ yX1_works cX1_works 3 (some .boolean)) B.pre
  have hts : ∀ w ∈ lw_all, w.before _ s = true := fun w h => hts w (List.mem_cons_of_mem _ h)
  have hown : s.vm.findClass RX1 = some m.cls := findClass_of_methodNamed B.named
  have hlocks := B.notSynchronized
  subst hsz
  have hD := hD0.self (sz := s.heap.size)
  generalize hAe : va_A (mw ci h ad cA σ) s.heap.size = A at hD ⊢
  have hA : ∀ q : Nat, s.heap.size ≤ q → A q := fun q h => by rw [← hAe]; exact Or.inr h
  clear hAe hD0
  have hS : va_S A s.heap s.heap [] := va_S.rf
  generalize hHe : s.heap = H at hP hS ⊢
  have hS : va_S A s.heap H [] := by rw [hHe]; exact hS
  generalize ([] : List Loc) = locs at hS ⊢
  have hl := lv_entry ([.ref h, .int a0, .int a1]) (n := 3) (Nat.le_of_ble_eq_true rfl)
  rw [lg_entry_eq]
  generalize (lg_sl ([.ref h, .int a0, .int a1]) ++ List.replicate (3 - (lg_sl ([.ref h, .int a0, .int a1])).length) Slot.unset).toArray = ls at hl ⊢
  have hl : lv_has ls 3 [(0, .ref h), (1, .int a0), (2, .int a1)] := hl
  have hf : (dz_b (fnX1_begins K 115 a0 a1 σ) fun s2 => dz_b (fnX1_isPrime K (Int32.toInt64 a0)) fun x3 => if x3 = (0 : Int32) then (some (0, s2)) else (if a1 = (0 : Int32) then (if (100 : Int32) ≤ a0 then (some (0, s2)) else (some (1, s2))) else (if a0 = (2 : Int32) then (some (0, s2)) else (dz_b (fnX1_laysRows K 115 s2) fun s5 => dz_c (fnX1_laysBases K 115 s5) fun x6 s7 => if x6 = (0 : Int32) then (some (0, s7)) else (dz_b (fnX1_hasPair K a1) fun x8 => if x8 = (0 : Int32) then ((lfX1_works K K) s7) else (dz_c (fnX1_laysPair K 115 s7) fun x9 s10 => if x9 = (0 : Int32) then (some (0, s10)) else ((lfX1_works K K) s10)))))) : Option (Int32 × pM)) = some res := hf
  have ih := wlX1_works (l := l) (e := e) (below := below) (h := h) (ad := ad) (cA := cA) hci hA hK K res a0 a1 hx hb hr hlocks hml hown hts K
  refine lv_aload_n hx hb dX1_works_0 rfl (lv_at hl 0 rfl) ?_
  refine lv_bipush (v := 115) hx hb dX1_works_1 (by decide) ?_
  refine lv_iload_n hx hb dX1_works_3 rfl (lv_at hl 1 rfl) ?_
  refine lv_iload_n hx hb dX1_works_4 rfl (lv_at hl 2 rfl) ?_
  obtain ⟨s2, hx1, hf⟩ := dz_bo hf
  have hFc := dz_free hD hS hA
  refine va_callv (va_runV (As := [.int 115, .int a0, .int a1]) (rest := []) ⟨hx, hb, hml, hown, hts⟩ (mtX1_begins l D cl ci hci h ad cA H.size σ 115 a0 a1 K s2 hx1) (cwV 3 hts (lw_V q1875 q1877 qs49 q88 q1878) rfl rfl rfl (by decide +kernel) ⟨Nat.le_of_ble_eq_true rfl, Nat.le_of_ble_eq_true rfl⟩) (m_preV hci hK hP hD) rfl rfl hl.1 rfl (lv_room (Nat.le_of_ble_eq_true rfl)) dX1_works_5 ⟨Nat.le_refl _, Nat.le_refl _⟩) hS (fun q _ hq => hFc q hq) hFc (fun u t H1 locs ht hvm hw hB hz hk hS => ?_)
  replace hw := hw.symm; subst hw
  replace hP := m_back ht hB
  replace hD := mw_D s2 hD
  clear hB hk hz hvm ht hFc; generalize H1 = H at hP hS ⊢
  refine lv_iload_n hx hb dX1_works_8 rfl (lv_at hl 1 rfl) ?_
  refine lv_i2l hx hb dX1_works_9 (rfl : _ = Int32.toInt64 a0) ?_
  obtain ⟨x3, hx3, hf⟩ := dz_bo hf
  refine va_calli (va_runS (As := [.long (Int32.toInt64 a0)]) (rest := []) ⟨hx, hb, hml, hown, hts⟩ (mtX1_isPrime l (Int32.toInt64 a0) K x3 hx3) (va_cwS 1 hts (lw_S q1799 q1800 q88 q1801) rfl rfl rfl (by decide +kernel) ⟨Nat.le_of_ble_eq_true rfl, Nat.le_of_ble_eq_true rfl⟩) ⟨fun a U g mk q => q, fun U hU hW => ⟨rfl, trivial⟩⟩ rfl rfl hl.1 rfl (lv_room (Nat.le_of_ble_eq_true rfl)) dX1_works_10 ⟨Nat.le_refl _, Nat.le_refl _⟩) hS (fun q _ hq => hq.elim) (fun q hq => hq.elim) (fun r u t H1 locs ht hvm hw hB hz hk hS => ?_)
  replace hw := hw.symm; subst hw
  replace hP := dz_keep hP hk
  clear hB hk hz hvm ht; generalize H1 = H at hP hS ⊢
  refine lv_if_ne (tgt := 18) hx hb dX1_works_13 (by decide) (fun c13 => ?_) (fun c13 => ?_)
  · have hf := dz_f c13 hf
    refine lv_iload_n hx hb dX1_works_18 rfl (lv_at hl 2 rfl) ?_
    refine lv_if_ne (tgt := 34) hx hb dX1_works_19 (by decide) (fun c19 => ?_) (fun c19 => ?_)
    · have hf := dz_f c19 hf
      refine lv_iload_n hx hb dX1_works_34 rfl (lv_at hl 1 rfl) ?_
      refine lv_iconst (v := 2) hx hb dX1_works_35 (by decide) ?_
      refine lv_icmp_ne (tgt := 41) hx hb dX1_works_36 (by decide) (fun c36 => ?_) (fun c36 => ?_)
      · have hf := dz_f c36 hf
        refine lv_aload_n hx hb dX1_works_41 rfl (lv_at hl 0 rfl) ?_
        refine lv_bipush (v := 115) hx hb dX1_works_42 (by decide) ?_
        obtain ⟨s5, hx4, hf⟩ := dz_bo hf
        have hFc := dz_free hD hS hA
        refine va_callv (va_runV (As := [.int 115]) (rest := []) ⟨hx, hb, hml, hown, hts⟩ (mtX1_laysRows l D cl ci hci h ad cA H.size s2 115 K s5 hx4) (cwV 1 hts (lw_V q1879 q1881 qs50 q88 q1882) rfl rfl rfl (by decide +kernel) ⟨Nat.le_of_ble_eq_true rfl, Nat.le_of_ble_eq_true rfl⟩) (m_preV hci hK hP hD) rfl rfl hl.1 rfl (lv_room (Nat.le_of_ble_eq_true rfl)) dX1_works_44 ⟨Nat.le_refl _, Nat.le_refl _⟩) hS (fun q _ hq => hFc q hq) hFc (fun u t H1 locs ht hvm hw hB hz hk hS => ?_)
        replace hw := hw.symm; subst hw
        replace hP := m_back ht hB
        replace hD := mw_D s5 hD
        clear hB hk hz hvm ht hFc; generalize H1 = H at hP hS ⊢
        refine lv_aload_n hx hb dX1_works_47 rfl (lv_at hl 0 rfl) ?_
        refine lv_bipush (v := 115) hx hb dX1_works_48 (by decide) ?_
        obtain ⟨x6, s7, hx6, hf⟩ := dz_co hf
        have hFc := dz_free hD hS hA
        refine va_calli (va_runV (As := [.int 115]) (rest := []) ⟨hx, hb, hml, hown, hts⟩ (mtX1_laysBases l D cl ci hci h ad cA H.size s5 115 K (x6, s7) hx6) (cwV 1 hts (lw_V q1903 q1905 qs56 q88 q1906) rfl rfl rfl (by decide +kernel) ⟨Nat.le_of_ble_eq_true rfl, Nat.le_of_ble_eq_true rfl⟩) (m_preV hci hK hP hD) rfl rfl hl.1 rfl (lv_room (Nat.le_of_ble_eq_true rfl)) dX1_works_50 ⟨Nat.le_refl _, Nat.le_refl _⟩) hS (fun q _ hq => hFc q hq) hFc (fun r u t H1 locs ht hvm hw hB hz hk hS => ?_)
        obtain ⟨hw1, hw2⟩ := Prod.mk.inj hw.symm; subst hw1; subst hw2
        replace hP := m_back ht hB
        replace hD := mw_D s7 hD
        clear hB hk hz hvm ht hFc; generalize H1 = H at hP hS ⊢
        refine lv_if_eq (tgt := 76) hx hb dX1_works_53 (by decide) (fun c53 => ?_) (fun c53 => ?_)
        · have hf := dz_t c53 hf
          refine lv_iconst (v := 0) hx hb dX1_works_76 (by decide) ?_
          exact W.zret (v := 0) hx hb hr rfl (fun t ht hW => ⟨⟨0, s7, rfl, Option.some.inj hf, by rw [ht]; exact hP, va_K.moved hW.alike hK, hD⟩, hS.F ht⟩) hS.2.2 dX1_works_77
        · have hf := dz_f c53 hf
          refine lv_iload_n hx hb dX1_works_56 rfl (lv_at hl 2 rfl) ?_
          obtain ⟨x8, hx8, hf⟩ := dz_bo hf
          refine va_calli (va_runS (As := [.int a1]) (rest := []) ⟨hx, hb, hml, hown, hts⟩ (mtX1_hasPair l a1 K x8 hx8) (va_cwS 1 hts (lw_S q1850 q1851 q88 q1852) rfl rfl rfl (by decide +kernel) ⟨Nat.le_of_ble_eq_true rfl, Nat.le_of_ble_eq_true rfl⟩) ⟨fun a U g mk q => q, fun U hU hW => ⟨rfl, trivial⟩⟩ rfl rfl hl.1 rfl (lv_room (Nat.le_of_ble_eq_true rfl)) dX1_works_57 ⟨Nat.le_refl _, Nat.le_refl _⟩) hS (fun q _ hq => hq.elim) (fun q hq => hq.elim) (fun r u t H1 locs ht hvm hw hB hz hk hS => ?_)
          replace hw := hw.symm; subst hw
          replace hP := dz_keep hP hk
          clear hB hk hz hvm ht; generalize H1 = H at hP hS ⊢
          refine lv_if_eq (tgt := 72) hx hb dX1_works_60 (by decide) (fun c60 => ?_) (fun c60 => ?_)
          · have hf := dz_t c60 hf
            exact ih s7 H locs hP hD hS ls (lv_sub hl [] rfl) hf
          · have hf := dz_f c60 hf
            refine lv_aload_n hx hb dX1_works_63 rfl (lv_at hl 0 rfl) ?_
            refine lv_bipush (v := 115) hx hb dX1_works_64 (by decide) ?_
            obtain ⟨x9, s10, hx9, hf⟩ := dz_co hf
            have hFc := dz_free hD hS hA
            refine va_calli (va_runV (As := [.int 115]) (rest := []) ⟨hx, hb, hml, hown, hts⟩ (mtX1_laysPair l D cl ci hci h ad cA H.size s7 115 K (x9, s10) hx9) (cwV 1 hts (lw_V q1907 q1909 qs57 q88 q1910) rfl rfl rfl (by decide +kernel) ⟨Nat.le_of_ble_eq_true rfl, Nat.le_of_ble_eq_true rfl⟩) (m_preV hci hK hP hD) rfl rfl hl.1 rfl (lv_room (Nat.le_of_ble_eq_true rfl)) dX1_works_66 ⟨Nat.le_refl _, Nat.le_refl _⟩) hS (fun q _ hq => hFc q hq) hFc (fun r u t H1 locs ht hvm hw hB hz hk hS => ?_)
            obtain ⟨hw1, hw2⟩ := Prod.mk.inj hw.symm; subst hw1; subst hw2
            replace hP := m_back ht hB
            replace hD := mw_D s10 hD
            clear hB hk hz hvm ht hFc; generalize H1 = H at hP hS ⊢
            refine lv_if_eq (tgt := 76) hx hb dX1_works_69 (by decide) (fun c69 => ?_) (fun c69 => ?_)
            · have hf := dz_t c69 hf
              refine lv_iconst (v := 0) hx hb dX1_works_76 (by decide) ?_
              exact W.zret (v := 0) hx hb hr rfl (fun t ht hW => ⟨⟨0, s10, rfl, Option.some.inj hf, by rw [ht]; exact hP, va_K.moved hW.alike hK, hD⟩, hS.F ht⟩) hS.2.2 dX1_works_77
            · have hf := dz_f c69 hf
              exact ih s10 H locs hP hD hS ls (lv_sub hl [] rfl) hf
      · have hf := dz_t c36 hf
        refine lv_iconst (v := 0) hx hb dX1_works_39 (by decide) ?_
        exact W.zret (v := 0) hx hb hr rfl (fun t ht hW => ⟨⟨0, s2, rfl, Option.some.inj hf, by rw [ht]; exact hP, va_K.moved hW.alike hK, hD⟩, hS.F ht⟩) hS.2.2 dX1_works_40
    · have hf := dz_t c19 hf
      refine lv_iload_n hx hb dX1_works_22 rfl (lv_at hl 1 rfl) ?_
      refine lv_bipush (v := 100) hx hb dX1_works_23 (by decide) ?_
      refine lv_icmp_ge (tgt := 32) hx hb dX1_works_25 (by decide) (fun c25 => ?_) (fun c25 => ?_)
      · have hf := dz_t c25 hf
        refine lv_iconst (v := 0) hx hb dX1_works_32 (by decide) ?_
        exact W.zret (v := 0) hx hb hr rfl (fun t ht hW => ⟨⟨0, s2, rfl, Option.some.inj hf, by rw [ht]; exact hP, va_K.moved hW.alike hK, hD⟩, hS.F ht⟩) hS.2.2 dX1_works_33
      · have hf := dz_f c25 hf
        refine lv_iconst (v := 1) hx hb dX1_works_28 (by decide) ?_
        refine lv_goto (tgt := 33) hx hb dX1_works_29 (by decide) ?_
        exact W.zret (v := 1) hx hb hr rfl (fun t ht hW => ⟨⟨1, s2, rfl, Option.some.inj hf, by rw [ht]; exact hP, va_K.moved hW.alike hK, hD⟩, hS.F ht⟩) hS.2.2 dX1_works_33
  · have hf := dz_t c13 hf
    refine lv_iconst (v := 0) hx hb dX1_works_16 (by decide) ?_
    exact W.zret (v := 0) hx hb hr rfl (fun t ht hW => ⟨⟨0, s2, rfl, Option.some.inj hf, by rw [ht]; exact hP, va_K.moved hW.alike hK, hD⟩, hS.F ht⟩) hS.2.2 dX1_works_17

noncomputable def lfX1_lineFor (K : Nat) : Nat → (Int32 → Int32 → Int32 → pM → Option (Int32 × pM)) × (Int32 → Int32 → Int32 → pM → Option (Int32 × pM)) := Nat.rec (motive := fun _ => (Int32 → Int32 → Int32 → pM → Option (Int32 × pM)) × (Int32 → Int32 → Int32 → pM → Option (Int32 × pM))) ((fun _ _ _ _ => none), (fun _ _ _ _ => none)) (fun _ G => ((fun v1 v2 v3 σ => if v2 ≤ v3 then (some ((-1), σ)) else (if ¬ (v3 < 0 ∨ 60 ≤ Int32.toNatClampNeg v3) then (dz_l (σ.2.2.1 19 (Int32.toNatClampNeg v3)) fun x2 => if x2 = (0 : Int32) then (G.2 v1 v2 v3 σ) else (if ¬ (v3 < 0 ∨ 116 ≤ Int32.toNatClampNeg v3) then (dz_l (σ.2.2.1 8 (Int32.toNatClampNeg v3)) fun x4 => if x4 = v1 then (some (v3, σ)) else (G.2 v1 v2 v3 σ)) else none)) else none)), (fun v1 v2 v3 σ => dz_l (v3 + 1) fun x1 => G.1 v1 v2 x1 σ)))
noncomputable def fnX1_lineFor (K : Nat) (a0 : Int32) (a1 : Int32) (σ : pM) : Option (Int32 × pM) := (lfX1_lineFor K K).1 a0 a1 0 σ
set_option maxHeartbeats 4000000 in
set_option maxRecDepth 100000 in
theorem wlX1_lineFor {p : Program} {l : Launch} {e : Env} {s : State} {m : MethodId} {below : List Frame} {meth : Method} {c : Code} {D : va_G} {cl : List vw_C} {ci : Nat} (hci : cl[ci]? = some (RX1, TX1, 35)) {h : Nat} {ad : Nat → Nat} {cA : Nat → ClassId} {A : Nat → Prop} (hA : ∀ q : Nat, s.heap.size ≤ q → A q) (hK : va_K D cl (mtys cA) s) (K : Nat) (res : (Int32 × pM)) (a0 : Int32) (a1 : Int32) (hx : p.tables.exec = Jvm.exec) (hb : c.code = cX1_lineFor) (hr : meth.sig.returnType = some .int) (hlocks : meth.locks = false) (hml : c.maxLocals = 4) (hown : s.vm.findClass RX1 = some m.cls) (hts : ∀ w ∈ lw_all, w.before ([.ref h, .int a0, .int a1] : List Value).toArray s = true) : ∀ k : Nat, (∀ (v1 : Int32) (v2 : Int32) (v3 : Int32) (σ : pM) (H : Heap) (locs : List Loc), va_P D cl (mw ci h ad cA σ) H → va_D A (mw ci h ad cA σ) → va_S A s.heap H locs → ∀ (ls : Array Slot), lv_has ls 4 [(0, .ref h), (1, .int v1), (2, .int v2), (3, .int v3)] → (lfX1_lineFor K k).1 v1 v2 v3 σ = some res → W p l e (headSpec (ws_ yX1_lineFor cX1_lineFor 4 (some .int)) ({ frames := 0, cells := 0, slots := 0, locals := 0 })).room s m ([.ref h, .int a0, .int a1] : List Value).toArray below meth c H locs 0 0 (MQ below (mQi D cl ci h ad cA A res) ([.ref h, .int a0, .int a1] : List Value).toArray s 0 0 A) (F0 m 2 ls [])) ∧ (∀ (v1 : Int32) (v2 : Int32) (v3 : Int32) (σ : pM) (H : Heap) (locs : List Loc), va_P D cl (mw ci h ad cA σ) H → va_D A (mw ci h ad cA σ) → va_S A s.heap H locs → ∀ (ls : Array Slot), lv_has ls 4 [(0, .ref h), (1, .int v1), (2, .int v2), (3, .int v3)] → (lfX1_lineFor K k).2 v1 v2 v3 σ = some res → W p l e (headSpec (ws_ yX1_lineFor cX1_lineFor 4 (some .int)) ({ frames := 0, cells := 0, slots := 0, locals := 0 })).room s m ([.ref h, .int a0, .int a1] : List Value).toArray below meth c H locs 0 0 (MQ below (mQi D cl ci h ad cA A res) ([.ref h, .int a0, .int a1] : List Value).toArray s 0 0 A) (F0 m 28 ls [])) := by
  intro k
  induction k with
  | zero =>
    exact ⟨fun _ _ _ _ _ _ _ _ _ _ _ hf => (by cases hf), fun _ _ _ _ _ _ _ _ _ _ _ hf => (by cases hf)⟩
  | succ k ih =>
    refine ⟨?_, ?_⟩
    · intro v1 v2 v3 σ H locs hP hD hS ls hl hf
      have hf : (if v2 ≤ v3 then (some ((-1), σ)) else (if ¬ (v3 < 0 ∨ 60 ≤ Int32.toNatClampNeg v3) then (dz_l (σ.2.2.1 19 (Int32.toNatClampNeg v3)) fun x2 => if x2 = (0 : Int32) then ((lfX1_lineFor K k).2 v1 v2 v3 σ) else (if ¬ (v3 < 0 ∨ 116 ≤ Int32.toNatClampNeg v3) then (dz_l (σ.2.2.1 8 (Int32.toNatClampNeg v3)) fun x4 => if x4 = v1 then (some (v3, σ)) else ((lfX1_lineFor K k).2 v1 v2 v3 σ)) else none)) else none) : Option (Int32 × pM)) = some res := hf
      refine lv_iload_n hx hb dX1_lineFor_2 rfl (lv_at hl 3 rfl) ?_
      refine lv_iload_n hx hb dX1_lineFor_3 rfl (lv_at hl 2 rfl) ?_
      refine lv_icmp_ge (tgt := 34) hx hb dX1_lineFor_4 (by decide) (fun c4 => ?_) (fun c4 => ?_)
      · have hf := dz_t c4 hf
        refine lv_iconst (v := (-1)) hx hb dX1_lineFor_34 (by decide) ?_
        exact W.iret (v := (-1)) hx hb hr (fun t ht hW => ⟨⟨(-1), σ, rfl, Option.some.inj hf, by rw [ht]; exact hP, va_K.moved hW.alike hK, hD⟩, hS.F ht⟩) hS.2.2 dX1_lineFor_35
      · have hf := dz_f c4 hf
        refine lv_aload_n hx hb dX1_lineFor_7 rfl (lv_at hl 0 rfl) ?_
        refine va_get (C := RX1) (T := TX1) (N := 35) (fs := mwF ad σ) (v := .ref (ad 19)) hx hb hts in_X1 hown hK hP 0 rfl hci 19 (by decide) (hts _ q1690) (fun _ hq => hq) rfl dX1_lineFor_8 ?_
        refine lv_iload_n hx hb dX1_lineFor_11 rfl (lv_at hl 3 rfl) ?_
        obtain ⟨g1, hf⟩ := dz_go hf
        refine va_zald hx hb hK hP 17 2 rfl rfl g1 dX1_lineFor_12 ?_
        refine lv_topi (fun x2 e_x2 => ?_)
        have hf := dz_ls e_x2 hf
        refine lv_if_eq (tgt := 28) hx hb dX1_lineFor_13 (by decide) (fun c13 => ?_) (fun c13 => ?_)
        · have hf := dz_t c13 hf
          exact ih.2 v1 v2 v3 σ H locs hP hD hS ls (lv_sub hl [0, 1, 2, 3] rfl) hf
        · have hf := dz_f c13 hf
          refine lv_aload_n hx hb dX1_lineFor_16 rfl (lv_at hl 0 rfl) ?_
          refine va_get (C := RX1) (T := TX1) (N := 35) (fs := mwF ad σ) (v := .ref (ad 8)) hx hb hts in_X1 hown hK hP 0 rfl hci 8 (by decide) (hts _ q1679) (fun _ hq => hq) rfl dX1_lineFor_17 ?_
          refine lv_iload_n hx hb dX1_lineFor_20 rfl (lv_at hl 3 rfl) ?_
          obtain ⟨g3, hf⟩ := dz_go hf
          refine va_iald hx hb hK hP 6 0 rfl rfl g3 dX1_lineFor_21 ?_
          refine lv_topi (fun x4 e_x4 => ?_)
          have hf := dz_ls e_x4 hf
          refine lv_iload_n hx hb dX1_lineFor_22 rfl (lv_at hl 1 rfl) ?_
          refine lv_icmp_ne (tgt := 28) hx hb dX1_lineFor_23 (by decide) (fun c23 => ?_) (fun c23 => ?_)
          · have hf := dz_f c23 hf
            exact ih.2 v1 v2 v3 σ H locs hP hD hS ls (lv_sub hl [0, 1, 2, 3] rfl) hf
          · have hf := dz_t c23 hf
            refine lv_iload_n hx hb dX1_lineFor_26 rfl (lv_at hl 3 rfl) ?_
            exact W.iret (v := v3) hx hb hr (fun t ht hW => ⟨⟨v3, σ, rfl, Option.some.inj hf, by rw [ht]; exact hP, va_K.moved hW.alike hK, hD⟩, hS.F ht⟩) hS.2.2 dX1_lineFor_27
    · intro v1 v2 v3 σ H locs hP hD hS ls hl hf
      have hf : (dz_l (v3 + 1) fun x1 => (lfX1_lineFor K k).1 v1 v2 x1 σ : Option (Int32 × pM)) = some res := hf
      obtain ⟨x1, e_x1, hf⟩ := dz_lo hf
      refine lv_iinc (v := x1) (lv' := [(3, .int x1), (0, .ref h), (1, .int v1), (2, .int v2)]) hx hb dX1_lineFor_28 hl (k := 3) rfl (by rw [e_x1]; rfl) (by decide) rfl (fun ls hl => ?_)
      refine lv_goto (tgt := 2) hx hb dX1_lineFor_31 (by decide) ?_
      exact ih.1 v1 v2 x1 σ H locs hP hD hS ls (lv_sub hl [1, 2, 3, 0] rfl) hf
set_option maxHeartbeats 4000000 in
set_option maxRecDepth 100000 in
theorem mtX1_lineFor (l : Launch) (D : va_G) (cl : List vw_C) (ci : Nat) (hci : cl[ci]? = some (RX1, TX1, 35)) (h : Nat) (ad : Nat → Nat) (cA : Nat → ClassId) (sz : Nat) (σ : pM) (a0 : Int32) (a1 : Int32) (K : Nat) (res : (Int32 × pM)) (hf : fnX1_lineFor K a0 a1 σ = some res) : Met l yX1_lineFor (ws_ yX1_lineFor cX1_lineFor 4 (some .int)) ({ frames := 0, cells := 0, slots := 0, locals := 0 }) (mPc D cl ci h ad cA sz σ [.ref h, .int a0, .int a1]) (mQi D cl ci h ad cA (va_A (mw ci h ad cA σ) sz) res) 0 0 (va_A (mw ci h ad cA σ) sz) := by
  refine Met.ofW (cc := cX1_lineFor) (maxL := 4) (ret := some .int) (by decide +kernel) rfl ?_
  intro p e s m args below meth c s₁ B hml hv
  obtain ⟨rfl, hsz, hP, hK, hD0⟩ := hv
  have hx := B.exec
  have hb := B.bytes
  have hr := B.returns
  have hts := atoms_spec (ws := ws_ yX1_lineFor cX1_lineFor 4 (some .int)) B.pre
  have hts : ∀ w ∈ lw_all, w.before _ s = true := fun w h => hts w (List.mem_cons_of_mem _ h)
  have hown : s.vm.findClass RX1 = some m.cls := findClass_of_methodNamed B.named
  have hlocks := B.notSynchronized
  subst hsz
  have hD := hD0.self (sz := s.heap.size)
  generalize hAe : va_A (mw ci h ad cA σ) s.heap.size = A at hD ⊢
  have hA : ∀ q : Nat, s.heap.size ≤ q → A q := fun q h => by rw [← hAe]; exact Or.inr h
  clear hAe hD0
  have hS : va_S A s.heap s.heap [] := va_S.rf
  generalize hHe : s.heap = H at hP hS ⊢
  have hS : va_S A s.heap H [] := by rw [hHe]; exact hS
  generalize ([] : List Loc) = locs at hS ⊢
  have hl := lv_entry ([.ref h, .int a0, .int a1]) (n := 4) (Nat.le_of_ble_eq_true rfl)
  rw [lg_entry_eq]
  generalize (lg_sl ([.ref h, .int a0, .int a1]) ++ List.replicate (4 - (lg_sl ([.ref h, .int a0, .int a1])).length) Slot.unset).toArray = ls at hl ⊢
  have hl : lv_has ls 4 [(0, .ref h), (1, .int a0), (2, .int a1)] := hl
  have hf : ((lfX1_lineFor K K).1 a0 a1 0 σ : Option (Int32 × pM)) = some res := hf
  have ih := wlX1_lineFor (l := l) (e := e) (below := below) (h := h) (ad := ad) (cA := cA) hci hA hK K res a0 a1 hx hb hr hlocks hml hown hts K
  refine lv_iconst (v := 0) hx hb dX1_lineFor_0 (by decide) ?_
  refine lv_istore_n (lv' := [(3, .int 0), (0, .ref h), (1, .int a0), (2, .int a1)]) hx hb dX1_lineFor_1 rfl hl (by decide) rfl (fun ls hl => ?_)
  exact ih.1 a0 a1 0 σ H locs hP hD hS ls (lv_sub hl [1, 2, 3, 0] rfl) hf

noncomputable def lfX1_missing (K : Nat) : Nat → (Int32 → pM → Option (Int32 × pM)) × (Int32 → pM → Option (Int32 × pM)) := Nat.rec (motive := fun _ => (Int32 → pM → Option (Int32 × pM)) × (Int32 → pM → Option (Int32 × pM))) ((fun _ _ => none), (fun _ _ => none)) (fun _ G => ((fun v1 σ => dz_l (σ.2.2.1 12 (Int32.toNatClampNeg 115)) fun x1 => if x1 ≤ v1 then (G.2 0 σ) else (dz_l (1035 + v1) fun x2 => if ¬ (x2 < 0 ∨ 1044 ≤ Int32.toNatClampNeg x2) then (dz_l (σ.2.2.1 14 (Int32.toNatClampNeg x2)) fun x4 => dz_l (σ.1 7) fun x5 => dz_c (fnX1_lineFor K x4 x5 σ) fun x6 s7 => if x6 = (-1 : Int32) then (dz_l (1035 + v1) fun x9 => if ¬ (x9 < 0 ∨ 1044 ≤ Int32.toNatClampNeg x9) then (dz_l (s7.2.2.1 14 (Int32.toNatClampNeg x9)) fun x11 => some (x11, s7)) else none) else (dz_l (v1 + 1) fun x8 => G.1 x8 s7)) else none)), (fun v1 σ => dz_l (σ.2.2.1 13 (Int32.toNatClampNeg 115)) fun x1 => if x1 ≤ v1 then (some (0, σ)) else (dz_l (1035 + v1) fun x2 => if ¬ (x2 < 0 ∨ 1044 ≤ Int32.toNatClampNeg x2) then (dz_l (σ.2.2.1 17 (Int32.toNatClampNeg x2)) fun x4 => dz_l (σ.1 7) fun x5 => dz_c (fnX1_lineFor K x4 x5 σ) fun x6 s7 => if x6 = (-1 : Int32) then (dz_l (1035 + v1) fun x9 => if ¬ (x9 < 0 ∨ 1044 ≤ Int32.toNatClampNeg x9) then (dz_l (s7.2.2.1 17 (Int32.toNatClampNeg x9)) fun x11 => some (x11, s7)) else none) else (dz_l (v1 + 1) fun x8 => G.2 x8 s7)) else none))))
noncomputable def fnX1_missing (K : Nat)  (σ : pM) : Option (Int32 × pM) := (lfX1_missing K K).1 0 σ
set_option maxHeartbeats 4000000 in
set_option maxRecDepth 100000 in
theorem wlX1_missing {p : Program} {l : Launch} {e : Env} {s : State} {m : MethodId} {below : List Frame} {meth : Method} {c : Code} {D : va_G} {cl : List vw_C} {ci : Nat} (hci : cl[ci]? = some (RX1, TX1, 35)) {h : Nat} {ad : Nat → Nat} {cA : Nat → ClassId} {A : Nat → Prop} (hA : ∀ q : Nat, s.heap.size ≤ q → A q) (hK : va_K D cl (mtys cA) s) (K : Nat) (res : (Int32 × pM))  (hx : p.tables.exec = Jvm.exec) (hb : c.code = cX1_missing) (hr : meth.sig.returnType = some .int) (hlocks : meth.locks = false) (hml : c.maxLocals = 2) (hown : s.vm.findClass RX1 = some m.cls) (hts : ∀ w ∈ lw_all, w.before ([.ref h] : List Value).toArray s = true) : ∀ k : Nat, (∀ (v1 : Int32) (σ : pM) (H : Heap) (locs : List Loc), va_P D cl (mw ci h ad cA σ) H → va_D A (mw ci h ad cA σ) → va_S A s.heap H locs → ∀ (ls : Array Slot), lv_has ls 2 [(0, .ref h), (1, .int v1)] → (lfX1_missing K k).1 v1 σ = some res → W p l e (headSpec (ws_ yX1_missing cX1_missing 2 (some .int)) ({ frames := 1, cells := 0, slots := 0, locals := 23 })).room s m ([.ref h] : List Value).toArray below meth c H locs 0 0 (MQ below (mQi D cl ci h ad cA A res) ([.ref h] : List Value).toArray s 0 0 A) (F0 m 2 ls [])) ∧ (∀ (v1 : Int32) (σ : pM) (H : Heap) (locs : List Loc), va_P D cl (mw ci h ad cA σ) H → va_D A (mw ci h ad cA σ) → va_S A s.heap H locs → ∀ (ls : Array Slot), lv_has ls 2 [(0, .ref h), (1, .int v1)] → (lfX1_missing K k).2 v1 σ = some res → W p l e (headSpec (ws_ yX1_missing cX1_missing 2 (some .int)) ({ frames := 1, cells := 0, slots := 0, locals := 23 })).room s m ([.ref h] : List Value).toArray below meth c H locs 0 0 (MQ below (mQi D cl ci h ad cA A res) ([.ref h] : List Value).toArray s 0 0 A) (F0 m 54 ls [])) := by
  intro k
  induction k with
  | zero =>
    exact ⟨fun _ _ _ _ _ _ _ _ _ hf => (by cases hf), fun _ _ _ _ _ _ _ _ _ hf => (by cases hf)⟩
  | succ k ih =>
    refine ⟨?_, ?_⟩
    · intro v1 σ H locs hP hD hS ls hl hf
      have hf : (dz_l (σ.2.2.1 12 (Int32.toNatClampNeg 115)) fun x1 => if x1 ≤ v1 then ((lfX1_missing K k).2 0 σ) else (dz_l (1035 + v1) fun x2 => if ¬ (x2 < 0 ∨ 1044 ≤ Int32.toNatClampNeg x2) then (dz_l (σ.2.2.1 14 (Int32.toNatClampNeg x2)) fun x4 => dz_l (σ.1 7) fun x5 => dz_c (fnX1_lineFor K x4 x5 σ) fun x6 s7 => if x6 = (-1 : Int32) then (dz_l (1035 + v1) fun x9 => if ¬ (x9 < 0 ∨ 1044 ≤ Int32.toNatClampNeg x9) then (dz_l (s7.2.2.1 14 (Int32.toNatClampNeg x9)) fun x11 => some (x11, s7)) else none) else (dz_l (v1 + 1) fun x8 => (lfX1_missing K k).1 x8 s7)) else none) : Option (Int32 × pM)) = some res := hf
      refine lv_iload_n hx hb dX1_missing_2 rfl (lv_at hl 1 rfl) ?_
      refine lv_aload_n hx hb dX1_missing_3 rfl (lv_at hl 0 rfl) ?_
      refine va_get (C := RX1) (T := TX1) (N := 35) (fs := mwF ad σ) (v := .ref (ad 12)) hx hb hts in_X1 hown hK hP 0 rfl hci 12 (by decide) (hts _ q1683) (fun _ hq => hq) rfl dX1_missing_4 ?_
      refine lv_bipush (v := 115) hx hb dX1_missing_7 (by decide) ?_
      refine va_iald hx hb hK hP 10 0 rfl rfl (by unfold vp_in; decide) dX1_missing_9 ?_
      refine lv_topi (fun x1 e_x1 => ?_)
      have hf := dz_ls e_x1 hf
      refine lv_icmp_ge (tgt := 52) hx hb dX1_missing_10 (by decide) (fun c10 => ?_) (fun c10 => ?_)
      · have hf := dz_t c10 hf
        refine lv_iconst (v := 0) hx hb dX1_missing_52 (by decide) ?_
        refine lv_istore_n (lv' := [(1, .int 0), (0, .ref h)]) hx hb dX1_missing_53 rfl hl (by decide) rfl (fun ls hl => ?_)
        exact ih.2 0 σ H locs hP hD hS ls (lv_sub hl [1, 0] rfl) hf
      · have hf := dz_f c10 hf
        refine lv_aload_n hx hb dX1_missing_13 rfl (lv_at hl 0 rfl) ?_
        refine lv_aload_n hx hb dX1_missing_14 rfl (lv_at hl 0 rfl) ?_
        refine va_get (C := RX1) (T := TX1) (N := 35) (fs := mwF ad σ) (v := .ref (ad 14)) hx hb hts in_X1 hown hK hP 0 rfl hci 14 (by decide) (hts _ q1685) (fun _ hq => hq) rfl dX1_missing_15 ?_
        refine lv_sipush (v := 1035) hx hb dX1_missing_18 (by decide) ?_
        refine lv_iload_n hx hb dX1_missing_21 rfl (lv_at hl 1 rfl) ?_
        refine lv_iadd hx hb dX1_missing_22 ?_
        refine lv_topi (fun x2 e_x2 => ?_)
        have hf := dz_ls e_x2 hf
        obtain ⟨g3, hf⟩ := dz_go hf
        refine va_iald hx hb hK hP 12 0 rfl rfl g3 dX1_missing_23 ?_
        refine lv_topi (fun x4 e_x4 => ?_)
        have hf := dz_ls e_x4 hf
        refine lv_aload_n hx hb dX1_missing_24 rfl (lv_at hl 0 rfl) ?_
        refine va_get (C := RX1) (T := TX1) (N := 35) (fs := mwF ad σ) (v := .int (σ.1 7)) hx hb hts in_X1 hown hK hP 0 rfl hci 7 (by decide) (hts _ q1678) (fun _ hq => hq) rfl dX1_missing_25 ?_
        refine lv_topi (fun x5 e_x5 => ?_)
        have hf := dz_ls e_x5 hf
        obtain ⟨x6, s7, hx6, hf⟩ := dz_co hf
        have hFc := dz_free hD hS hA
        refine va_calli (va_runV (As := [.int x4, .int x5]) (rest := []) ⟨hx, hb, hml, hown, hts⟩ (mtX1_lineFor l D cl ci hci h ad cA H.size σ x4 x5 K (x6, s7) hx6) (cwV 2 hts (lw_V q1809 q1811 qs39 q88 q1812) rfl rfl rfl (by decide +kernel) ⟨Nat.le_of_ble_eq_true rfl, Nat.le_of_ble_eq_true rfl⟩) (m_preV hci hK hP hD) rfl rfl hl.1 rfl (lv_room (Nat.le_of_ble_eq_true rfl)) dX1_missing_28 ⟨Nat.le_refl _, Nat.le_refl _⟩) hS (fun q _ hq => hFc q hq) hFc (fun r u t H1 locs ht hvm hw hB hz hk hS => ?_)
        obtain ⟨hw1, hw2⟩ := Prod.mk.inj hw.symm; subst hw1; subst hw2
        replace hP := m_back ht hB
        replace hD := mw_D s7 hD
        clear hB hk hz hvm ht hFc; generalize H1 = H at hP hS ⊢
        refine lv_iconst (v := (-1)) hx hb dX1_missing_31 (by decide) ?_
        refine lv_icmp_ne (tgt := 46) hx hb dX1_missing_32 (by decide) (fun c32 => ?_) (fun c32 => ?_)
        · have hf := dz_f c32 hf
          obtain ⟨x8, e_x8, hf⟩ := dz_lo hf
          refine lv_iinc (v := x8) (lv' := [(1, .int x8), (0, .ref h)]) hx hb dX1_missing_46 hl (k := 1) rfl (by rw [e_x8]; rfl) (by decide) rfl (fun ls hl => ?_)
          refine lv_goto (tgt := 2) hx hb dX1_missing_49 (by decide) ?_
          exact ih.1 x8 s7 H locs hP hD hS ls (lv_sub hl [1, 0] rfl) hf
        · have hf := dz_t c32 hf
          refine lv_aload_n hx hb dX1_missing_35 rfl (lv_at hl 0 rfl) ?_
          refine va_get (C := RX1) (T := TX1) (N := 35) (fs := mwF ad s7) (v := .ref (ad 14)) hx hb hts in_X1 hown hK hP 0 rfl hci 14 (by decide) (hts _ q1685) (fun _ hq => hq) rfl dX1_missing_36 ?_
          refine lv_sipush (v := 1035) hx hb dX1_missing_39 (by decide) ?_
          refine lv_iload_n hx hb dX1_missing_42 rfl (lv_at hl 1 rfl) ?_
          refine lv_iadd hx hb dX1_missing_43 ?_
          refine lv_topi (fun x9 e_x9 => ?_)
          have hf := dz_ls e_x9 hf
          obtain ⟨g10, hf⟩ := dz_go hf
          refine va_iald hx hb hK hP 12 0 rfl rfl g10 dX1_missing_44 ?_
          refine lv_topi (fun x11 e_x11 => ?_)
          have hf := dz_ls e_x11 hf
          exact W.iret (v := x11) hx hb hr (fun t ht hW => ⟨⟨x11, s7, rfl, Option.some.inj hf, by rw [ht]; exact hP, va_K.moved hW.alike hK, hD⟩, hS.F ht⟩) hS.2.2 dX1_missing_45
    · intro v1 σ H locs hP hD hS ls hl hf
      have hf : (dz_l (σ.2.2.1 13 (Int32.toNatClampNeg 115)) fun x1 => if x1 ≤ v1 then (some (0, σ)) else (dz_l (1035 + v1) fun x2 => if ¬ (x2 < 0 ∨ 1044 ≤ Int32.toNatClampNeg x2) then (dz_l (σ.2.2.1 17 (Int32.toNatClampNeg x2)) fun x4 => dz_l (σ.1 7) fun x5 => dz_c (fnX1_lineFor K x4 x5 σ) fun x6 s7 => if x6 = (-1 : Int32) then (dz_l (1035 + v1) fun x9 => if ¬ (x9 < 0 ∨ 1044 ≤ Int32.toNatClampNeg x9) then (dz_l (s7.2.2.1 17 (Int32.toNatClampNeg x9)) fun x11 => some (x11, s7)) else none) else (dz_l (v1 + 1) fun x8 => (lfX1_missing K k).2 x8 s7)) else none) : Option (Int32 × pM)) = some res := hf
      refine lv_iload_n hx hb dX1_missing_54 rfl (lv_at hl 1 rfl) ?_
      refine lv_aload_n hx hb dX1_missing_55 rfl (lv_at hl 0 rfl) ?_
      refine va_get (C := RX1) (T := TX1) (N := 35) (fs := mwF ad σ) (v := .ref (ad 13)) hx hb hts in_X1 hown hK hP 0 rfl hci 13 (by decide) (hts _ q1684) (fun _ hq => hq) rfl dX1_missing_56 ?_
      refine lv_bipush (v := 115) hx hb dX1_missing_59 (by decide) ?_
      refine va_iald hx hb hK hP 11 0 rfl rfl (by unfold vp_in; decide) dX1_missing_61 ?_
      refine lv_topi (fun x1 e_x1 => ?_)
      have hf := dz_ls e_x1 hf
      refine lv_icmp_ge (tgt := 104) hx hb dX1_missing_62 (by decide) (fun c62 => ?_) (fun c62 => ?_)
      · have hf := dz_t c62 hf
        refine lv_iconst (v := 0) hx hb dX1_missing_104 (by decide) ?_
        exact W.iret (v := 0) hx hb hr (fun t ht hW => ⟨⟨0, σ, rfl, Option.some.inj hf, by rw [ht]; exact hP, va_K.moved hW.alike hK, hD⟩, hS.F ht⟩) hS.2.2 dX1_missing_105
      · have hf := dz_f c62 hf
        refine lv_aload_n hx hb dX1_missing_65 rfl (lv_at hl 0 rfl) ?_
        refine lv_aload_n hx hb dX1_missing_66 rfl (lv_at hl 0 rfl) ?_
        refine va_get (C := RX1) (T := TX1) (N := 35) (fs := mwF ad σ) (v := .ref (ad 17)) hx hb hts in_X1 hown hK hP 0 rfl hci 17 (by decide) (hts _ q1688) (fun _ hq => hq) rfl dX1_missing_67 ?_
        refine lv_sipush (v := 1035) hx hb dX1_missing_70 (by decide) ?_
        refine lv_iload_n hx hb dX1_missing_73 rfl (lv_at hl 1 rfl) ?_
        refine lv_iadd hx hb dX1_missing_74 ?_
        refine lv_topi (fun x2 e_x2 => ?_)
        have hf := dz_ls e_x2 hf
        obtain ⟨g3, hf⟩ := dz_go hf
        refine va_iald hx hb hK hP 15 0 rfl rfl g3 dX1_missing_75 ?_
        refine lv_topi (fun x4 e_x4 => ?_)
        have hf := dz_ls e_x4 hf
        refine lv_aload_n hx hb dX1_missing_76 rfl (lv_at hl 0 rfl) ?_
        refine va_get (C := RX1) (T := TX1) (N := 35) (fs := mwF ad σ) (v := .int (σ.1 7)) hx hb hts in_X1 hown hK hP 0 rfl hci 7 (by decide) (hts _ q1678) (fun _ hq => hq) rfl dX1_missing_77 ?_
        refine lv_topi (fun x5 e_x5 => ?_)
        have hf := dz_ls e_x5 hf
        obtain ⟨x6, s7, hx6, hf⟩ := dz_co hf
        have hFc := dz_free hD hS hA
        refine va_calli (va_runV (As := [.int x4, .int x5]) (rest := []) ⟨hx, hb, hml, hown, hts⟩ (mtX1_lineFor l D cl ci hci h ad cA H.size σ x4 x5 K (x6, s7) hx6) (cwV 2 hts (lw_V q1809 q1811 qs39 q88 q1812) rfl rfl rfl (by decide +kernel) ⟨Nat.le_of_ble_eq_true rfl, Nat.le_of_ble_eq_true rfl⟩) (m_preV hci hK hP hD) rfl rfl hl.1 rfl (lv_room (Nat.le_of_ble_eq_true rfl)) dX1_missing_80 ⟨Nat.le_refl _, Nat.le_refl _⟩) hS (fun q _ hq => hFc q hq) hFc (fun r u t H1 locs ht hvm hw hB hz hk hS => ?_)
        obtain ⟨hw1, hw2⟩ := Prod.mk.inj hw.symm; subst hw1; subst hw2
        replace hP := m_back ht hB
        replace hD := mw_D s7 hD
        clear hB hk hz hvm ht hFc; generalize H1 = H at hP hS ⊢
        refine lv_iconst (v := (-1)) hx hb dX1_missing_83 (by decide) ?_
        refine lv_icmp_ne (tgt := 98) hx hb dX1_missing_84 (by decide) (fun c84 => ?_) (fun c84 => ?_)
        · have hf := dz_f c84 hf
          obtain ⟨x8, e_x8, hf⟩ := dz_lo hf
          refine lv_iinc (v := x8) (lv' := [(1, .int x8), (0, .ref h)]) hx hb dX1_missing_98 hl (k := 1) rfl (by rw [e_x8]; rfl) (by decide) rfl (fun ls hl => ?_)
          refine lv_goto (tgt := 54) hx hb dX1_missing_101 (by decide) ?_
          exact ih.2 x8 s7 H locs hP hD hS ls (lv_sub hl [1, 0] rfl) hf
        · have hf := dz_t c84 hf
          refine lv_aload_n hx hb dX1_missing_87 rfl (lv_at hl 0 rfl) ?_
          refine va_get (C := RX1) (T := TX1) (N := 35) (fs := mwF ad s7) (v := .ref (ad 17)) hx hb hts in_X1 hown hK hP 0 rfl hci 17 (by decide) (hts _ q1688) (fun _ hq => hq) rfl dX1_missing_88 ?_
          refine lv_sipush (v := 1035) hx hb dX1_missing_91 (by decide) ?_
          refine lv_iload_n hx hb dX1_missing_94 rfl (lv_at hl 1 rfl) ?_
          refine lv_iadd hx hb dX1_missing_95 ?_
          refine lv_topi (fun x9 e_x9 => ?_)
          have hf := dz_ls e_x9 hf
          obtain ⟨g10, hf⟩ := dz_go hf
          refine va_iald hx hb hK hP 15 0 rfl rfl g10 dX1_missing_96 ?_
          refine lv_topi (fun x11 e_x11 => ?_)
          have hf := dz_ls e_x11 hf
          exact W.iret (v := x11) hx hb hr (fun t ht hW => ⟨⟨x11, s7, rfl, Option.some.inj hf, by rw [ht]; exact hP, va_K.moved hW.alike hK, hD⟩, hS.F ht⟩) hS.2.2 dX1_missing_97
set_option maxHeartbeats 4000000 in
set_option maxRecDepth 100000 in
theorem mtX1_missing (l : Launch) (D : va_G) (cl : List vw_C) (ci : Nat) (hci : cl[ci]? = some (RX1, TX1, 35)) (h : Nat) (ad : Nat → Nat) (cA : Nat → ClassId) (sz : Nat) (σ : pM)  (K : Nat) (res : (Int32 × pM)) (hf : fnX1_missing K  σ = some res) : Met l yX1_missing (ws_ yX1_missing cX1_missing 2 (some .int)) ({ frames := 1, cells := 0, slots := 0, locals := 23 }) (mPc D cl ci h ad cA sz σ [.ref h]) (mQi D cl ci h ad cA (va_A (mw ci h ad cA σ) sz) res) 0 0 (va_A (mw ci h ad cA σ) sz) := by
  refine Met.ofW (cc := cX1_missing) (maxL := 2) (ret := some .int) (by decide +kernel) rfl ?_
  intro p e s m args below meth c s₁ B hml hv
  obtain ⟨rfl, hsz, hP, hK, hD0⟩ := hv
  have hx := B.exec
  have hb := B.bytes
  have hr := B.returns
  have hts := atoms_spec (ws := ws_ yX1_missing cX1_missing 2 (some .int)) B.pre
  have hts : ∀ w ∈ lw_all, w.before _ s = true := fun w h => hts w (List.mem_cons_of_mem _ h)
  have hown : s.vm.findClass RX1 = some m.cls := findClass_of_methodNamed B.named
  have hlocks := B.notSynchronized
  subst hsz
  have hD := hD0.self (sz := s.heap.size)
  generalize hAe : va_A (mw ci h ad cA σ) s.heap.size = A at hD ⊢
  have hA : ∀ q : Nat, s.heap.size ≤ q → A q := fun q h => by rw [← hAe]; exact Or.inr h
  clear hAe hD0
  have hS : va_S A s.heap s.heap [] := va_S.rf
  generalize hHe : s.heap = H at hP hS ⊢
  have hS : va_S A s.heap H [] := by rw [hHe]; exact hS
  generalize ([] : List Loc) = locs at hS ⊢
  have hl := lv_entry ([.ref h]) (n := 2) (Nat.le_of_ble_eq_true rfl)
  rw [lg_entry_eq]
  generalize (lg_sl ([.ref h]) ++ List.replicate (2 - (lg_sl ([.ref h])).length) Slot.unset).toArray = ls at hl ⊢
  have hl : lv_has ls 2 [(0, .ref h)] := hl
  have hf : ((lfX1_missing K K).1 0 σ : Option (Int32 × pM)) = some res := hf
  have ih := wlX1_missing (l := l) (e := e) (below := below) (h := h) (ad := ad) (cA := cA) hci hA hK K res  hx hb hr hlocks hml hown hts K
  refine lv_iconst (v := 0) hx hb dX1_missing_0 (by decide) ?_
  refine lv_istore_n (lv' := [(1, .int 0), (0, .ref h)]) hx hb dX1_missing_1 rfl hl (by decide) rfl (fun ls hl => ?_)
  exact ih.1 0 σ H locs hP hD hS ls (lv_sub hl [1, 0] rfl) hf

