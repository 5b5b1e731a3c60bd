noncomputable def lfJ2_fastRemove (K : Nat) (ζ : pZ) : Nat → (Nat → Nat → Int32 → pH → Option (Unit × pH)) := Nat.rec (motive := fun _ => (Nat → Nat → Int32 → pH → Option (Unit × pH))) (fun _ _ _ _ => none) (fun _ G => (fun v0 v1 v3 τ => dz_b (zwo ζ τ v0 14 2) fun f1 => dz_l (zst τ v0 (.inr (14, f1.set 2 (.int v3)))) fun s2 => if ζ.1 ≤ v1 ∧ v1 < s2.1 then (dz_c (zaq ζ s2 v1 4) fun n3 f4 => if ¬ (v3 < 0 ∨ n3 ≤ Int32.toNatClampNeg v3) then (dz_l (zst s2 v1 (.inl (4, n3, .inr (.inr (.inr (.inr (va_up f4 (Int32.toNatClampNeg v3) none))))))) fun s5 => some ((), s5)) else none) else none))
noncomputable def fnJ2_fastRemove (K : Nat) (ζ : pZ) (h : Nat) (a0 : Nat) (a1 : Int32) (τ : pH) : Option (Unit × pH) := dz_b (zob ζ τ h 14) fun f1 => dz_b (zvi (f1[0]?)) fun x2 => dz_l (x2 + 1) fun x3 => dz_b (zwo ζ τ h 14 0) fun f4 => dz_l (zst τ h (.inr (14, f4.set 0 (.int x3)))) fun s5 => dz_b (zob ζ s5 h 14) fun f6 => dz_b (zvi (f6[2]?)) fun x7 => dz_l (x7 - 1) fun x8 => if x8 ≤ a1 then ((lfJ2_fastRemove K ζ K) h a0 x8 s5) else (if ζ.1 ≤ a0 ∧ a0 < s5.1 then (if ζ.1 ≤ a0 ∧ a0 < s5.1 then (dz_c (zaq ζ s5 a0 4) fun n9 f10 => dz_c (zaq ζ s5 a0 4) fun n11 f12 => if ¬ (a1 + 1) < 0 then (if ¬ a1 < 0 then (if ¬ (x8 - a1) < 0 then (if (Int32.toNatClampNeg (a1 + 1)) + (Int32.toNatClampNeg (x8 - a1)) ≤ n9 then (if (Int32.toNatClampNeg a1) + (Int32.toNatClampNeg (x8 - a1)) ≤ n11 then (if zels ζ s5 f10 (Int32.toNatClampNeg (a1 + 1)) (Int32.toNatClampNeg (x8 - a1)) = true then (dz_l (zst s5 a0 (.inl (4, n11, .inr (.inr (.inr (.inr (va_cpy f10 f12 (Int32.toNatClampNeg (a1 + 1)) (Int32.toNatClampNeg a1) (Int32.toNatClampNeg (x8 - a1))))))))) fun s13 => (lfJ2_fastRemove K ζ K) h a0 x8 s13) else none) else none) else none) else none) else none) else none) else none) else none)
set_option maxHeartbeats 4000000 in
set_option maxRecDepth 100000 in
theorem wlJ2_fastRemove {p : Program} {l : Launch} {e : Env} {s : State} {m : MethodId} {below : List Frame} {meth : Method} {c : Code} {D : va_G} {cA : Nat → ClassId} {ζ : pZ} (hX : zX D cA ζ s) (K : Nat) (res : (Unit × pH)) (M S sl0 : Nat) (hM : s.heap.size + M = res.2.1) (hS0 : sl0 + S = res.2.2.1) (h : Nat) (a0 : Nat) (a1 : Int32) (hx : p.tables.exec = Jvm.exec) (hb : c.code = cJ2_fastRemove) (hr : meth.sig.returnType = none) (hlocks : meth.locks = false) (hml : c.maxLocals = 4) (hown : s.vm.findClass RJ2 = some m.cls) (hts : ∀ w ∈ lw_all, w.before ([.ref h, .ref a0, .int a1] : List Value).toArray s = true) : ∀ k : Nat, (∀ (v0 : Nat) (v1 : Nat) (v3 : Int32) (τ : pH) (H : Heap) (locs : List Loc) (cells slots : Nat), zH D cA ζ τ H → va_S (zA ζ) s.heap H locs → s.heap.size + cells = τ.1 → sl0 + slots = τ.2.1 → cells ≤ M ∧ slots ≤ S → ∀ (ls : Array Slot), lv_has ls 4 [(0, .ref v0), (1, .ref v1), (3, .int v3)] → (lfJ2_fastRemove K ζ k) v0 v1 v3 τ = some res → W p l e (headSpec (ws_ yJ2_fastRemove cJ2_fastRemove 4 (none)) ({ frames := 1, cells := M, slots := S, locals := 60 })).room s m ([.ref h, .ref a0, .int a1] : List Value).toArray below meth c H locs cells slots (MQ below (zQv D cA ζ res) ([.ref h, .ref a0, .int a1] : List Value).toArray s M S (zA ζ)) (F0 m 34 ls [])) := by
  intro k
  induction k with
  | zero =>
    exact fun _ _ _ _ _ _ _ _ _ _ _ _ _ _ _ hf => (by cases hf)
  | succ k ih =>
    · intro v0 v1 v3 τ H locs cells slots hH hS hcs hss hcM ls hl hf
      have hf : (dz_b (zwo ζ τ v0 14 2) fun f1 => dz_l (zst τ v0 (.inr (14, f1.set 2 (.int v3)))) fun s2 => if ζ.1 ≤ v1 ∧ v1 < s2.1 then (dz_c (zaq ζ s2 v1 4) fun n3 f4 => if ¬ (v3 < 0 ∨ n3 ≤ Int32.toNatClampNeg v3) then (dz_l (zst s2 v1 (.inl (4, n3, .inr (.inr (.inr (.inr (va_up f4 (Int32.toNatClampNeg v3) none))))))) fun s5 => some ((), s5)) else none) else none : Option (Unit × pH)) = some res := hf
      refine lv_aload_n hx hb dJ2_fastRemove_34 rfl (lv_at hl 1 rfl) ?_
      refine lv_aload_n hx hb dJ2_fastRemove_35 rfl (lv_at hl 0 rfl) ?_
      refine lv_iload_n hx hb dJ2_fastRemove_36 rfl (lv_at hl 2 rfl) ?_
      refine lv_dup_x1 hx hb dJ2_fastRemove_37 rfl rfl ?_
      obtain ⟨f1, hf1, hf⟩ := dz_bo hf
      obtain ⟨ha_f1, he_f1, hk_f1⟩ := zwo_o hf1
      refine va_put (C := RJ2) (T := TJ2) (N := 3) hx hb hts in_J2 tyJ2 tyJ2_ok nmJ2 hown hX.K hH.2.2 zw_D hS _ (zw_o ha_f1 he_f1) rfl 2 (by decide) (hts _ q144) (fun _ hq => hq) rfl rfl rfl rfl hk_f1 dJ2_fastRemove_38 (fun H1 locs hP1 _ hS => dz_size (fun hz => ?_))
      obtain ⟨s2, e_s2, hf⟩ := dz_lo hf
      have hH := zH_put (x := .inr (14, f1.set 2 (.int v3))) hH hcs ha_f1 hP1 hz
      rw [← e_s2] at hH
      have hcs : s.heap.size + cells = s2.1 := by rw [e_s2]; exact hcs
      have hss : sl0 + slots = s2.2.1 := by rw [e_s2]; exact hss
      clear hP1 hz; generalize H1 = H at hH hS ⊢
      refine lv_null hx hb dJ2_fastRemove_41 ?_
      obtain ⟨g6, hf⟩ := dz_go hf
      obtain ⟨n3, f4, hn3, hf⟩ := dz_co hf
      obtain ⟨g7, hf⟩ := dz_go hf
      refine va_astqN hx hb hX.K hH.2.2 zw_D hS _ 4 (zw_a g6 (zrd_w (zaq_o hn3) g6)) rfl g7 dJ2_fastRemove_42 (fun H1 locs hP1 _ hS => dz_size (fun hz => ?_))
      obtain ⟨s5, e_s5, hf⟩ := dz_lo hf
      have hH := zH_put (x := (.inl (4, n3, .inr (.inr (.inr (.inr (va_up f4 (Int32.toNatClampNeg v3) none))))))) hH hcs g6 hP1 hz
      rw [← e_s5] at hH
      have hcs : s.heap.size + cells = s5.1 := by rw [e_s5]; exact hcs
      have hss : sl0 + slots = s5.2.1 := by rw [e_s5]; exact hss
      clear hP1 hz; generalize H1 = H at hH hS ⊢
      obtain ⟨hM1, hS1⟩ : cells = M ∧ slots = S := by have hq := congrArg Prod.snd (Option.some.inj hf); rw [← hq] at hM hS0; have hM : s.heap.size + M = s5.1 := hM; have hS0 : sl0 + S = s5.2.1 := hS0; omega
      refine W.widen (k := M) (n := S) (Nat.le_of_eq hM1) (Nat.le_of_eq hS1) ?_
      exact W.vret hx hb hr (fun t ht hW => ⟨⟨s5, rfl, Option.some.inj hf, z_at ht hH⟩, hS.F ht⟩) hS.2.2 dJ2_fastRemove_43
set_option maxHeartbeats 4000000 in
set_option maxRecDepth 100000 in
theorem mtJ2_fastRemove (l : Launch) (D : va_G) (cA : Nat → ClassId) (ζ : pZ) (τ : pH) (h : Nat) (a0 : Nat) (a1 : Int32) (K : Nat) (res : (Unit × pH)) (hf : fnJ2_fastRemove K ζ h a0 a1 τ = some res) (M S : Nat) (hM : τ.1 + M = res.2.1) (hS0 : τ.2.1 + S = res.2.2.1) : Met l yJ2_fastRemove (ws_ yJ2_fastRemove cJ2_fastRemove 4 (none)) ({ frames := 1, cells := M, slots := S, locals := 60 }) (zPc D cA ζ τ [.ref h, .ref a0, .int a1]) (zQv D cA ζ res) M S (zA ζ) := by
  refine Met.ofW (cc := cJ2_fastRemove) (maxL := 4) (ret := none) (by decide +kernel) rfl ?_
  intro p e s m args below meth c s₁ B hml hv
  obtain ⟨rfl, hX, hH⟩ := hv
  have hx := B.exec
  have hb := B.bytes
  have hr := B.returns
  have hts := atoms_spec (ws := ws_ yJ2_fastRemove cJ2_fastRemove 4 (none)) B.pre
  have hts : ∀ w ∈ lw_all, w.before _ s = true := fun w h => hts w (List.mem_cons_of_mem _ h)
  have hown : s.vm.findClass RJ2 = some m.cls := findClass_of_methodNamed B.named
  have hlocks := B.notSynchronized
  have hM : s.heap.size + M = res.2.1 := by rw [hH.1]; exact hM
  have hcs : s.heap.size + 0 = τ.1 := hH.1
  have hss : τ.2.1 + 0 = τ.2.1 := rfl
  generalize hsl0 : τ.2.1 = sl0 at hS0 hss
  have hss : sl0 + 0 = τ.2.1 := by rw [hsl0]; rfl
  have hS : va_S (zA ζ) s.heap s.heap [] := va_S.rf
  generalize hHe : s.heap = H at hH hS ⊢
  have hS : va_S (zA ζ) s.heap H [] := by rw [hHe]; exact hS
  generalize ([] : List Loc) = locs at hS ⊢
  have hl := lv_entry ([.ref h, .ref a0, .int a1]) (n := 4) (Nat.le_of_ble_eq_true rfl)
  rw [lg_entry_eq]
  generalize (lg_sl ([.ref h, .ref a0, .int a1]) ++ List.replicate (4 - (lg_sl ([.ref h, .ref a0, .int a1])).length) Slot.unset).toArray = ls at hl ⊢
  have hl : lv_has ls 4 [(0, .ref h), (1, .ref a0), (2, .int a1)] := hl
  have hf : (dz_b (zob ζ τ h 14) fun f1 => dz_b (zvi (f1[0]?)) fun x2 => dz_l (x2 + 1) fun x3 => dz_b (zwo ζ τ h 14 0) fun f4 => dz_l (zst τ h (.inr (14, f4.set 0 (.int x3)))) fun s5 => dz_b (zob ζ s5 h 14) fun f6 => dz_b (zvi (f6[2]?)) fun x7 => dz_l (x7 - 1) fun x8 => if x8 ≤ a1 then ((lfJ2_fastRemove K ζ K) h a0 x8 s5) else (if ζ.1 ≤ a0 ∧ a0 < s5.1 then (if ζ.1 ≤ a0 ∧ a0 < s5.1 then (dz_c (zaq ζ s5 a0 4) fun n9 f10 => dz_c (zaq ζ s5 a0 4) fun n11 f12 => if ¬ (a1 + 1) < 0 then (if ¬ a1 < 0 then (if ¬ (x8 - a1) < 0 then (if (Int32.toNatClampNeg (a1 + 1)) + (Int32.toNatClampNeg (x8 - a1)) ≤ n9 then (if (Int32.toNatClampNeg a1) + (Int32.toNatClampNeg (x8 - a1)) ≤ n11 then (if zels ζ s5 f10 (Int32.toNatClampNeg (a1 + 1)) (Int32.toNatClampNeg (x8 - a1)) = true then (dz_l (zst s5 a0 (.inl (4, n11, .inr (.inr (.inr (.inr (va_cpy f10 f12 (Int32.toNatClampNeg (a1 + 1)) (Int32.toNatClampNeg a1) (Int32.toNatClampNeg (x8 - a1))))))))) fun s13 => (lfJ2_fastRemove K ζ K) h a0 x8 s13) else none) else none) else none) else none) else none) else none) else none) else none) : Option (Unit × pH)) = some res := hf
  refine z_gen (fun cells slots hc0 hs0 => ?_)
  have hcs : s.heap.size + cells = τ.1 := by rw [hc0]; exact hcs
  have hss : sl0 + slots = τ.2.1 := by rw [hs0]; exact hss
  have hcM : cells ≤ M ∧ slots ≤ S := by rw [hc0, hs0]; exact ⟨Nat.zero_le _, Nat.zero_le _⟩
  clear hc0 hs0
  have ih := wlJ2_fastRemove (l := l) (e := e) (below := below) (D := D) (cA := cA) hX K res M S sl0 hM hS0 h a0 a1 hx hb hr hlocks hml hown hts K
  refine lv_aload_n hx hb dJ2_fastRemove_0 rfl (lv_at hl 0 rfl) ?_
  refine lv_dup hx hb dJ2_fastRemove_1 rfl ?_
  obtain ⟨f1, hf1, hf⟩ := dz_bo hf
  obtain ⟨x2, hx2, hf⟩ := dz_bo hf
  refine va_get (C := RJ2) (T := TJ2) (N := 3) hx hb hts in_J2 hown hX.K (zrd_P hX hS hH (zob_o hf1)) 0 rfl rfl 0 (by decide) (hts _ q148) (fun x hq => u_same (hts _ q147) x hq) (zvi_o hx2) dJ2_fastRemove_2 ?_
  refine lv_iconst (v := 1) hx hb dJ2_fastRemove_5 (by decide) ?_
  refine lv_iadd hx hb dJ2_fastRemove_6 ?_
  refine lv_topi (fun x3 e_x3 => ?_)
  have hf := dz_ls e_x3 hf
  obtain ⟨f4, hf4, hf⟩ := dz_bo hf
  obtain ⟨ha_f4, he_f4, hk_f4⟩ := zwo_o hf4
  refine va_put (C := RJ2) (T := TJ2) (N := 3) hx hb hts in_J2 tyJ2 tyJ2_ok nmJ2 hown hX.K hH.2.2 zw_D hS _ (zw_o ha_f4 he_f4) rfl 0 (by decide) (hts _ q148) (fun x hq => u_same (hts _ q147) x hq) rfl rfl rfl rfl hk_f4 dJ2_fastRemove_7 (fun H1 locs hP1 _ hS => dz_size (fun hz => ?_))
  obtain ⟨s5, e_s5, hf⟩ := dz_lo hf
  have hH := zH_put (x := .inr (14, f4.set 0 (.int x3))) hH hcs ha_f4 hP1 hz
  rw [← e_s5] at hH
  have hcs : s.heap.size + cells = s5.1 := by rw [e_s5]; exact hcs
  have hss : sl0 + slots = s5.2.1 := by rw [e_s5]; exact hss
  clear hP1 hz; generalize H1 = H at hH hS ⊢
  refine lv_aload_n hx hb dJ2_fastRemove_10 rfl (lv_at hl 0 rfl) ?_
  obtain ⟨f6, hf6, hf⟩ := dz_bo hf
  obtain ⟨x7, hx7, hf⟩ := dz_bo hf
  refine va_get (C := RJ2) (T := TJ2) (N := 3) hx hb hts in_J2 hown hX.K (zrd_P hX hS hH (zob_o hf6)) 0 rfl rfl 2 (by decide) (hts _ q144) (fun _ hq => hq) (zvi_o hx7) dJ2_fastRemove_11 ?_
  refine lv_iconst (v := 1) hx hb dJ2_fastRemove_14 (by decide) ?_
  refine lv_isub hx hb dJ2_fastRemove_15 ?_
  refine lv_topi (fun x8 e_x8 => ?_)
  have hf := dz_ls e_x8 hf
  refine lv_dup hx hb dJ2_fastRemove_16 rfl ?_
  refine lv_istore_n (lv' := [(3, .int x8), (0, .ref h), (1, .ref a0), (2, .int a1)]) hx hb dJ2_fastRemove_17 rfl hl (by decide) rfl (fun ls hl => ?_)
  refine lv_iload_n hx hb dJ2_fastRemove_18 rfl (lv_at hl 3 rfl) ?_
  refine lv_icmp_le (tgt := 34) hx hb dJ2_fastRemove_19 (by decide) (fun c19 => ?_) (fun c19 => ?_)
  · have hf := dz_t c19 hf
    exact ih h a0 x8 s5 H locs cells slots hH hS hcs hss hcM ls (lv_sub hl [1, 2, 0] rfl) hf
  · have hf := dz_f c19 hf
    refine lv_aload_n hx hb dJ2_fastRemove_22 rfl (lv_at hl 2 rfl) ?_
    refine lv_iload_n hx hb dJ2_fastRemove_23 rfl (lv_at hl 3 rfl) ?_
    refine lv_iconst (v := 1) hx hb dJ2_fastRemove_24 (by decide) ?_
    refine lv_iadd hx hb dJ2_fastRemove_25 ?_
    refine lv_aload_n hx hb dJ2_fastRemove_26 rfl (lv_at hl 2 rfl) ?_
    refine lv_iload_n hx hb dJ2_fastRemove_27 rfl (lv_at hl 3 rfl) ?_
    refine lv_iload_n hx hb dJ2_fastRemove_28 rfl (lv_at hl 0 rfl) ?_
    refine lv_iload_n hx hb dJ2_fastRemove_29 rfl (lv_at hl 3 rfl) ?_
    refine lv_isub hx hb dJ2_fastRemove_30 ?_
    obtain ⟨g14, hf⟩ := dz_go hf
    obtain ⟨g15, hf⟩ := dz_go hf
    obtain ⟨n9, f10, hn9, hf⟩ := dz_co hf
    obtain ⟨n11, f12, hn11, hf⟩ := dz_co hf
    obtain ⟨g16, hf⟩ := dz_go hf
    obtain ⟨g17, hf⟩ := dz_go hf
    obtain ⟨g18, hf⟩ := dz_go hf
    obtain ⟨g19, hf⟩ := dz_go hf
    obtain ⟨g20, hf⟩ := dz_go hf
    obtain ⟨g21, hf⟩ := dz_go hf
    refine va_copyM hx hb (hml.trans hl.1.symm) hown (hts _ q871) (hts _ q856) (hts _ q855) (hts _ q106) hX.K hH.2.2 zw_D hS _ _ 4 4 (zw_a g14 (zrd_w (zaq_o hn9) g14)) (zw_a g15 (zrd_w (zaq_o hn11) g15)) rfl rfl g16 g17 g18 g19 g20 (fun i hi y hy => by obtain ⟨_, _, hq⟩ := zels_o g21 i hi y hy; exact z_anyL hX hS hH hq) (Nat.le_of_ble_eq_true rfl) (Nat.le_of_ble_eq_true rfl) dJ2_fastRemove_31 (fun H1 locs hP1 _ hS => dz_size (fun hz => ?_))
    obtain ⟨s13, e_s13, hf⟩ := dz_lo hf
    have hH := zH_put (x := (.inl (4, n11, .inr (.inr (.inr (.inr (va_cpy f10 f12 (Int32.toNatClampNeg (a1 + 1)) (Int32.toNatClampNeg a1) (Int32.toNatClampNeg (x8 - a1))))))))) hH hcs g15 hP1 hz
    rw [← e_s13] at hH
    have hcs : s.heap.size + cells = s13.1 := by rw [e_s13]; exact hcs
    have hss : sl0 + slots = s13.2.1 := by rw [e_s13]; exact hss
    clear hP1 hz; generalize H1 = H at hH hS ⊢
    exact ih h a0 x8 s13 H locs cells slots hH hS hcs hss hcM ls (lv_sub hl [1, 2, 0] rfl) hf

noncomputable def fnJ2_remove (K : Nat) (ζ : pZ) (h : Nat) (a0 : Int32) (τ : pH) : Option (Nat × pH) := dz_b (zob ζ τ h 14) fun f1 => dz_b (zvi (f1[2]?)) fun x2 => zcl τ (fnJ3_checkIndex K ζ a0 x2 τ) fun x3 s4 => dz_b (zob ζ s4 h 14) fun f5 => dz_b (zvr (f5[1]?)) fun x6 => dz_c (zaq ζ s4 x6 4) fun n7 f8 => if ¬ (a0 < 0 ∨ n7 ≤ Int32.toNatClampNeg a0) then (dz_b (f8 (Int32.toNatClampNeg a0)) fun x10 => dz_b (zob ζ s4 h 14) fun f13 => zcl s4 (fnJ2_fastRemove K ζ h x6 a0 s4) fun _ s12 => some (x10, s12)) else none
set_option maxHeartbeats 4000000 in
set_option maxRecDepth 100000 in
theorem mtJ2_remove (l : Launch) (D : va_G) (cA : Nat → ClassId) (ζ : pZ) (τ : pH) (h : Nat) (a0 : Int32) (K : Nat) (res : (Nat × pH)) (hf : fnJ2_remove K ζ h a0 τ = some res) (M S : Nat) (hM : τ.1 + M = res.2.1) (hS0 : τ.2.1 + S = res.2.2.1) : Met l yJ2_remove (ws_ yJ2_remove cJ2_remove 4 (some (.object "java/lang/Object"))) ({ frames := 2, cells := M, slots := S, locals := 83 }) (zPc D cA ζ τ [.ref h, .int a0]) (zQr D cA ζ res) M S (zA ζ) := by
  refine Met.ofW (cc := cJ2_remove) (maxL := 4) (ret := some (.object "java/lang/Object")) (by decide +kernel) rfl ?_
  intro p e s m args below meth c s₁ B hml hv
  obtain ⟨rfl, hX, hH⟩ := hv
  have hx := B.exec
  have hb := B.bytes
  have hr := B.returns
  have hts := atoms_spec (ws := ws_ yJ2_remove cJ2_remove 4 (some (.object "java/lang/Object"))) B.pre
  have hts : ∀ w ∈ lw_all, w.before _ s = true := fun w h => hts w (List.mem_cons_of_mem _ h)
  have hown : s.vm.findClass RJ2 = some m.cls := findClass_of_methodNamed B.named
  have hlocks := B.notSynchronized
  have hM : s.heap.size + M = res.2.1 := by rw [hH.1]; exact hM
  have hcs : s.heap.size + 0 = τ.1 := hH.1
  have hss : τ.2.1 + 0 = τ.2.1 := rfl
  generalize hsl0 : τ.2.1 = sl0 at hS0 hss
  have hss : sl0 + 0 = τ.2.1 := by rw [hsl0]; rfl
  have hS : va_S (zA ζ) s.heap s.heap [] := va_S.rf
  generalize hHe : s.heap = H at hH hS ⊢
  have hS : va_S (zA ζ) s.heap H [] := by rw [hHe]; exact hS
  generalize ([] : List Loc) = locs at hS ⊢
  have hl := lv_entry ([.ref h, .int a0]) (n := 4) (Nat.le_of_ble_eq_true rfl)
  rw [lg_entry_eq]
  generalize (lg_sl ([.ref h, .int a0]) ++ List.replicate (4 - (lg_sl ([.ref h, .int a0])).length) Slot.unset).toArray = ls at hl ⊢
  have hl : lv_has ls 4 [(0, .ref h), (1, .int a0)] := hl
  have hf : (dz_b (zob ζ τ h 14) fun f1 => dz_b (zvi (f1[2]?)) fun x2 => zcl τ (fnJ3_checkIndex K ζ a0 x2 τ) fun x3 s4 => dz_b (zob ζ s4 h 14) fun f5 => dz_b (zvr (f5[1]?)) fun x6 => dz_c (zaq ζ s4 x6 4) fun n7 f8 => if ¬ (a0 < 0 ∨ n7 ≤ Int32.toNatClampNeg a0) then (dz_b (f8 (Int32.toNatClampNeg a0)) fun x10 => dz_b (zob ζ s4 h 14) fun f13 => zcl s4 (fnJ2_fastRemove K ζ h x6 a0 s4) fun _ s12 => some (x10, s12)) else none : Option (Nat × pH)) = some res := hf
  refine z_gen (fun cells slots hc0 hs0 => ?_)
  have hcs : s.heap.size + cells = τ.1 := by rw [hc0]; exact hcs
  have hss : sl0 + slots = τ.2.1 := by rw [hs0]; exact hss
  have hcM : cells ≤ M ∧ slots ≤ S := by rw [hc0, hs0]; exact ⟨Nat.zero_le _, Nat.zero_le _⟩
  clear hc0 hs0
  refine lv_iload_n hx hb dJ2_remove_0 rfl (lv_at hl 1 rfl) ?_
  refine lv_aload_n hx hb dJ2_remove_1 rfl (lv_at hl 0 rfl) ?_
  obtain ⟨f1, hf1, hf⟩ := dz_bo hf
  obtain ⟨x2, hx2, hf⟩ := dz_bo hf
  refine va_get (C := RJ2) (T := TJ2) (N := 3) hx hb hts in_J2 hown hX.K (zrd_P hX hS hH (zob_o hf1)) 0 rfl rfl 2 (by decide) (hts _ q144) (fun _ hq => hq) (zvi_o hx2) dJ2_remove_2 ?_
  obtain ⟨x3, s4, hx3, hle, hck, hf⟩ := zcl_o hf
  have hc1 : cells + (s4.1 - τ.1) ≤ M := by omega
  have hs1 : slots + (s4.2.1 - τ.2.1) ≤ S := by omega
  refine va_calli (va_runS (As := [.int a0, .int x2]) (rest := []) ⟨hx, hb, hml, hown, hts⟩ (mtJ3_checkIndex l D cA ζ τ a0 x2 K (x3, s4) hx3 (s4.1 - τ.1) (s4.2.1 - τ.2.1) (Nat.add_sub_cancel' hle.1) (Nat.add_sub_cancel' hle.2)) (va_cwS 2 hts (lw_S q208 q209 q89 q210) rfl rfl rfl (by decide +kernel) ⟨Nat.le_of_ble_eq_true rfl, Nat.le_of_ble_eq_true rfl⟩) (z_preS hX hS hH) rfl rfl hl.1 rfl (lv_room (Nat.le_of_ble_eq_true rfl)) dJ2_remove_5 ⟨hc1, hs1⟩) hS (fun q _ hq => hq) (fun q hq => hq) (fun r u t H1 locs ht hvm hw hB hz hk hS => ?_)
  obtain ⟨hw1, hw2⟩ := Prod.mk.inj hw.symm; subst hw1; subst hw2
  have hH : zH D cA ζ s4 H1 := z_at ht.symm hB
  have hcs : s.heap.size + (cells + (s4.1 - τ.1)) = s4.1 := by omega
  have hss : sl0 + (slots + (s4.2.1 - τ.2.1)) = s4.2.1 := by omega
  replace hcM := And.intro hc1 hs1
  generalize cells + (s4.1 - τ.1) = cells at hcs hcM ⊢; generalize slots + (s4.2.1 - τ.2.1) = slots at hss hcM ⊢
  clear hB hk hz hvm ht hle hck hc1 hs1; generalize H1 = H at hH hS ⊢
  refine lv_pop hx hb dJ2_remove_8 rfl ?_
  refine lv_aload_n hx hb dJ2_remove_9 rfl (lv_at hl 0 rfl) ?_
  obtain ⟨f5, hf5, hf⟩ := dz_bo hf
  obtain ⟨x6, hx6, hf⟩ := dz_bo hf
  refine va_get (C := RJ2) (T := TJ2) (N := 3) hx hb hts in_J2 hown hX.K (zrd_P hX hS hH (zob_o hf5)) 0 rfl rfl 1 (by decide) (hts _ q141) (fun _ hq => hq) (zvr_o hx6) dJ2_remove_10 ?_
  refine lv_astore_n (lv' := [(2, .ref x6), (0, .ref h), (1, .int a0)]) hx hb dJ2_remove_13 rfl hl (by decide) rfl (fun ls hl => ?_)
  refine lv_aload_n hx hb dJ2_remove_14 rfl (lv_at hl 0 rfl) ?_
  refine lv_iload_n hx hb dJ2_remove_15 rfl (lv_at hl 2 rfl) ?_
  obtain ⟨n7, f8, hn7, hf⟩ := dz_co hf
  obtain ⟨g9, hf⟩ := dz_go hf
  obtain ⟨x10, hx10, hf⟩ := dz_bo hf
  refine va_aldq hx hb hX.K (zrd_P hX hS hH (zaq_o hn7)) 0 4 rfl rfl g9 dJ2_remove_16 ?_
  rw [hx10]
  refine W.eq (g2 := F0 m 17 ls (.ref x10 :: [])) rfl ?_
  refine lv_astore_n (lv' := [(3, .ref x10), (2, .ref x6), (0, .ref h), (1, .int a0)]) hx hb dJ2_remove_17 rfl hl (by decide) rfl (fun ls hl => ?_)
  refine lv_aload_n hx hb dJ2_remove_18 rfl (lv_at hl 2 rfl) ?_
  refine lv_aload_n hx hb dJ2_remove_19 rfl (lv_at hl 1 rfl) ?_
  refine lv_iload_n hx hb dJ2_remove_20 rfl (lv_at hl 3 rfl) ?_
  obtain ⟨f13, hf13, hf⟩ := dz_bo hf
  obtain ⟨x11, s12, hx11, hle, hck, hf⟩ := zcl_o hf
  have hc1 : cells + (s12.1 - s4.1) ≤ M := by omega
  have hs1 : slots + (s12.2.1 - s4.2.1) ≤ S := by omega
  refine va_callv (va_runV (As := [.ref x6, .int a0]) (rest := []) ⟨hx, hb, hml, hown, hts⟩ (mtJ2_fastRemove l D cA ζ s4 h x6 a0 K (x11, s12) hx11 (s12.1 - s4.1) (s12.2.1 - s4.2.1) (Nat.add_sub_cancel' hle.1) (Nat.add_sub_cancel' hle.2)) (cwV 2 hts (lw_V q867 q869 qs12 q87 q870) rfl rfl rfl (by decide +kernel) ⟨Nat.le_of_ble_eq_true rfl, Nat.le_of_ble_eq_true rfl⟩) (z_preV hX hS hH (zob_o hf13) rfl) rfl rfl hl.1 rfl (lv_room (Nat.le_of_ble_eq_true rfl)) dJ2_remove_21 ⟨hc1, hs1⟩) hS (fun q _ hq => hq) (fun q hq => hq) (fun u t H1 locs ht hvm hw hB hz hk hS => ?_)
  obtain ⟨-, hw2⟩ := Prod.mk.inj hw.symm; subst hw2
  have hH : zH D cA ζ s12 H1 := z_at ht.symm hB
  have hcs : s.heap.size + (cells + (s12.1 - s4.1)) = s12.1 := by omega
  have hss : sl0 + (slots + (s12.2.1 - s4.2.1)) = s12.2.1 := by omega
  replace hcM := And.intro hc1 hs1
  generalize cells + (s12.1 - s4.1) = cells at hcs hcM ⊢; generalize slots + (s12.2.1 - s4.2.1) = slots at hss hcM ⊢
  clear hB hk hz hvm ht hle hck hc1 hs1; generalize H1 = H at hH hS ⊢
  refine lv_aload_n hx hb dJ2_remove_24 rfl (lv_at hl 0 rfl) ?_
  obtain ⟨hM1, hS1⟩ : cells = M ∧ slots = S := by have hq := congrArg Prod.snd (Option.some.inj hf); rw [← hq] at hM hS0; have hM : s.heap.size + M = s12.1 := hM; have hS0 : sl0 + S = s12.2.1 := hS0; omega
  refine W.widen (k := M) (n := S) (Nat.le_of_eq hM1) (Nat.le_of_eq hS1) ?_
  exact W.aret (v := .ref x10) hx hb hr (Or.inl ⟨_, rfl⟩) (Or.inr ⟨_, rfl⟩) (fun t ht hW => ⟨⟨s12, x10, rfl, trivial, Option.some.inj hf, z_at ht hH⟩, hS.F ht⟩) hS.2.2 dJ2_remove_25

noncomputable def fnX0_changes (K : Nat) (ζ : pZ) (h : Nat) (a0 : Int32) (τ : pH) : Option (Unit × pH) := dz_b (zob ζ τ h 0) fun f1 => dz_b (zvi (f1[2]?)) fun x2 => dz_b (fnJ5_min_2 K x2 a0) fun x3 => dz_b (zwo ζ τ h 0 2) fun f4 => dz_l (zst τ h (.inr (0, f4.set 2 (.int x3)))) fun s5 => some ((), s5)
set_option maxHeartbeats 4000000 in
set_option maxRecDepth 100000 in
theorem mtX0_changes (l : Launch) (D : va_G) (cA : Nat → ClassId) (ζ : pZ) (τ : pH) (h : Nat) (a0 : Int32) (K : Nat) (res : (Unit × pH)) (hf : fnX0_changes K ζ h a0 τ = some res) (M S : Nat) (hM : τ.1 + M = res.2.1) (hS0 : τ.2.1 + S = res.2.2.1) : Met l yX0_changes (ws_ yX0_changes cX0_changes 2 (none)) ({ frames := 1, cells := M, slots := S, locals := 21 }) (zPc D cA ζ τ [.ref h, .int a0]) (zQv D cA ζ res) M S (zA ζ) := by
  refine Met.ofW (cc := cX0_changes) (maxL := 2) (ret := none) (by decide +kernel) rfl ?_
  intro p e s m args below meth c s₁ B hml hv
  obtain ⟨rfl, hX, hH⟩ := hv
  have hx := B.exec
  have hb := B.bytes
  have hr := B.returns
  have hts := atoms_spec (ws := ws_ yX0_changes cX0_changes 2 (none)) B.pre
  have hts : ∀ w ∈ lw_all, w.before _ s = true := fun w h => hts w (List.mem_cons_of_mem _ h)
  have hown : s.vm.findClass RX0 = some m.cls := findClass_of_methodNamed B.named
  have hlocks := B.notSynchronized
  have hM : s.heap.size + M = res.2.1 := by rw [hH.1]; exact hM
  have hcs : s.heap.size + 0 = τ.1 := hH.1
  have hss : τ.2.1 + 0 = τ.2.1 := rfl
  generalize hsl0 : τ.2.1 = sl0 at hS0 hss
  have hss : sl0 + 0 = τ.2.1 := by rw [hsl0]; rfl
  have hS : va_S (zA ζ) s.heap s.heap [] := va_S.rf
  generalize hHe : s.heap = H at hH hS ⊢
  have hS : va_S (zA ζ) s.heap H [] := by rw [hHe]; exact hS
  generalize ([] : List Loc) = locs at hS ⊢
  have hl := lv_entry ([.ref h, .int a0]) (n := 2) (Nat.le_of_ble_eq_true rfl)
  rw [lg_entry_eq]
  generalize (lg_sl ([.ref h, .int a0]) ++ List.replicate (2 - (lg_sl ([.ref h, .int a0])).length) Slot.unset).toArray = ls at hl ⊢
  have hl : lv_has ls 2 [(0, .ref h), (1, .int a0)] := hl
  have hf : (dz_b (zob ζ τ h 0) fun f1 => dz_b (zvi (f1[2]?)) fun x2 => dz_b (fnJ5_min_2 K x2 a0) fun x3 => dz_b (zwo ζ τ h 0 2) fun f4 => dz_l (zst τ h (.inr (0, f4.set 2 (.int x3)))) fun s5 => some ((), s5) : Option (Unit × pH)) = some res := hf
  refine z_gen (fun cells slots hc0 hs0 => ?_)
  have hcs : s.heap.size + cells = τ.1 := by rw [hc0]; exact hcs
  have hss : sl0 + slots = τ.2.1 := by rw [hs0]; exact hss
  have hcM : cells ≤ M ∧ slots ≤ S := by rw [hc0, hs0]; exact ⟨Nat.zero_le _, Nat.zero_le _⟩
  clear hc0 hs0
  refine lv_aload_n hx hb dX0_changes_0 rfl (lv_at hl 0 rfl) ?_
  refine lv_aload_n hx hb dX0_changes_1 rfl (lv_at hl 0 rfl) ?_
  obtain ⟨f1, hf1, hf⟩ := dz_bo hf
  obtain ⟨x2, hx2, hf⟩ := dz_bo hf
  refine va_get (C := RX0) (T := TX0) (N := 7) hx hb hts in_X0 hown hX.K (zrd_P hX hS hH (zob_o hf1)) 0 rfl rfl 2 (by decide) (hts _ q158) (fun _ hq => hq) (zvi_o hx2) dX0_changes_2 ?_
  refine lv_iload_n hx hb dX0_changes_5 rfl (lv_at hl 1 rfl) ?_
  obtain ⟨x3, hx3, hf⟩ := dz_bo hf
  refine va_calli (va_runS (As := [.int x2, .int a0]) (rest := [.ref h]) ⟨hx, hb, hml, hown, hts⟩ (mtJ5_min_2 l x2 a0 K x3 hx3) (va_cwS 2 hts (lw_S q876 q852 q92 q853) rfl rfl rfl (by decide +kernel) ⟨Nat.le_of_ble_eq_true rfl, Nat.le_of_ble_eq_true rfl⟩) ⟨fun a U g mk q => q, fun U hU hW => ⟨rfl, trivial⟩⟩ rfl rfl hl.1 rfl (lv_room (Nat.le_of_ble_eq_true rfl)) dX0_changes_6 ⟨hcM.1, hcM.2⟩) hS (fun q _ hq => hq.elim) (fun q hq => hq.elim) (fun r u t H1 locs ht hvm hw hB hz hk hS => dz_size (fun hz9 => ?_))
  replace hw := hw.symm; subst hw
  replace hH := zH_keep hH hcs hz hk hz9
  clear hB hk hz hvm ht hz9; generalize H1 = H at hH hS ⊢
  refine W.widen (k := cells) (n := slots) (Nat.le_refl _) (Nat.le_refl _) ?_
  obtain ⟨f4, hf4, hf⟩ := dz_bo hf
  obtain ⟨ha_f4, he_f4, hk_f4⟩ := zwo_o hf4
  refine va_put (C := RX0) (T := TX0) (N := 7) hx hb hts in_X0 tyX0 tyX0_ok nmX0 hown hX.K hH.2.2 zw_D hS _ (zw_o ha_f4 he_f4) rfl 2 (by decide) (hts _ q158) (fun _ hq => hq) rfl rfl rfl rfl hk_f4 dX0_changes_9 (fun H1 locs hP1 _ hS => dz_size (fun hz => ?_))
  obtain ⟨s5, e_s5, hf⟩ := dz_lo hf
  have hH := zH_put (x := .inr (0, f4.set 2 (.int x3))) hH hcs ha_f4 hP1 hz
  rw [← e_s5] at hH
  have hcs : s.heap.size + cells = s5.1 := by rw [e_s5]; exact hcs
  have hss : sl0 + slots = s5.2.1 := by rw [e_s5]; exact hss
  clear hP1 hz; generalize H1 = H at hH hS ⊢
  obtain ⟨hM1, hS1⟩ : cells = M ∧ slots = S := by have hq := congrArg Prod.snd (Option.some.inj hf); rw [← hq] at hM hS0; have hM : s.heap.size + M = s5.1 := hM; have hS0 : sl0 + S = s5.2.1 := hS0; omega
  refine W.widen (k := M) (n := S) (Nat.le_of_eq hM1) (Nat.le_of_eq hS1) ?_
  exact W.vret hx hb hr (fun t ht hW => ⟨⟨s5, rfl, Option.some.inj hf, z_at ht hH⟩, hS.F ht⟩) hS.2.2 dX0_changes_12

noncomputable def lfX0_goesBack (K : Nat) (ζ : pZ) : Nat → (Nat → Int32 → pH → Option (Unit × pH)) := Nat.rec (motive := fun _ => (Nat → Int32 → pH → Option (Unit × pH))) (fun _ _ _ => none) (fun _ G => (fun v0 v1 τ => dz_b (zob ζ τ v0 0) fun f1 => dz_b (zvr (f1[0]?)) fun x2 => dz_b (zob ζ τ x2 14) fun f5 => zcl τ (fnJ2_size K ζ x2 τ) fun x3 s4 => if x3 ≤ v1 then (dz_b (zob ζ s4 v0 0) fun f8 => zcl s4 (fnX0_changes K ζ v0 v1 s4) fun _ s7 => some ((), s7)) else (dz_b (zob ζ s4 v0 0) fun f9 => dz_b (zvr (f9[0]?)) fun x10 => dz_b (zob ζ s4 v0 0) fun f11 => dz_b (zvr (f11[0]?)) fun x12 => dz_b (zob ζ s4 x12 14) fun f15 => zcl s4 (fnJ2_size K ζ x12 s4) fun x13 s14 => dz_b (zob ζ s14 x10 14) fun f18 => zcl s14 (fnJ2_remove K ζ x10 (x13 - 1) s14) fun x16 s17 => G v0 v1 s17)))
noncomputable def fnX0_goesBack (K : Nat) (ζ : pZ) (h : Nat) (a0 : Int32) (τ : pH) : Option (Unit × pH) := (lfX0_goesBack K ζ K) h a0 τ
set_option maxHeartbeats 4000000 in
set_option maxRecDepth 100000 in
theorem wlX0_goesBack {p : Program} {l : Launch} {e : Env} {s : State} {m : MethodId} {below : List Frame} {meth : Method} {c : Code} {D : va_G} {cA : Nat → ClassId} {ζ : pZ} (hX : zX D cA ζ s) (K : Nat) (res : (Unit × pH)) (M S sl0 : Nat) (hM : s.heap.size + M = res.2.1) (hS0 : sl0 + S = res.2.2.1) (h : Nat) (a0 : Int32) (hx : p.tables.exec = Jvm.exec) (hb : c.code = cX0_goesBack) (hr : meth.sig.returnType = none) (hlocks : meth.locks = false) (hml : c.maxLocals = 2) (hown : s.vm.findClass RX0 = some m.cls) (hts : ∀ w ∈ lw_all, w.before ([.ref h, .int a0] : List Value).toArray s = true) : ∀ k : Nat, (∀ (v0 : Nat) (v1 : Int32) (τ : pH) (H : Heap) (locs : List Loc) (cells slots : Nat), zH D cA ζ τ H → va_S (zA ζ) s.heap H locs → s.heap.size + cells = τ.1 → sl0 + slots = τ.2.1 → cells ≤ M ∧ slots ≤ S → ∀ (ls : Array Slot), lv_has ls 2 [(0, .ref v0), (1, .int v1)] → (lfX0_goesBack K ζ k) v0 v1 τ = some res → W p l e (headSpec (ws_ yX0_goesBack cX0_goesBack 2 (none)) ({ frames := 3, cells := M, slots := S, locals := 106 })).room s m ([.ref h, .int a0] : List Value).toArray below meth c H locs cells slots (MQ below (zQv D cA ζ res) ([.ref h, .int a0] : List Value).toArray s M S (zA ζ)) (F0 m 0 ls [])) := by
  intro k
  induction k with
  | zero =>
    exact fun _ _ _ _ _ _ _ _ _ _ _ _ _ _ hf => (by cases hf)
  | succ k ih =>
    · intro v0 v1 τ H locs cells slots hH hS hcs hss hcM ls hl hf
      have hf : (dz_b (zob ζ τ v0 0) fun f1 => dz_b (zvr (f1[0]?)) fun x2 => dz_b (zob ζ τ x2 14) fun f5 => zcl τ (fnJ2_size K ζ x2 τ) fun x3 s4 => if x3 ≤ v1 then (dz_b (zob ζ s4 v0 0) fun f8 => zcl s4 (fnX0_changes K ζ v0 v1 s4) fun _ s7 => some ((), s7)) else (dz_b (zob ζ s4 v0 0) fun f9 => dz_b (zvr (f9[0]?)) fun x10 => dz_b (zob ζ s4 v0 0) fun f11 => dz_b (zvr (f11[0]?)) fun x12 => dz_b (zob ζ s4 x12 14) fun f15 => zcl s4 (fnJ2_size K ζ x12 s4) fun x13 s14 => dz_b (zob ζ s14 x10 14) fun f18 => zcl s14 (fnJ2_remove K ζ x10 (x13 - 1) s14) fun x16 s17 => (lfX0_goesBack K ζ k) v0 v1 s17) : Option (Unit × pH)) = some res := hf
      refine lv_aload_n hx hb dX0_goesBack_0 rfl (lv_at hl 0 rfl) ?_
      obtain ⟨f1, hf1, hf⟩ := dz_bo hf
      obtain ⟨x2, hx2, hf⟩ := dz_bo hf
      refine va_get (C := RX0) (T := TX0) (N := 7) hx hb hts in_X0 hown hX.K (zrd_P hX hS hH (zob_o hf1)) 0 rfl rfl 0 (by decide) (hts _ q156) (fun _ hq => hq) (zvr_o hx2) dX0_goesBack_1 ?_
      obtain ⟨f5, hf5, hf⟩ := dz_bo hf
      obtain ⟨x3, s4, hx3, hle, hck, hf⟩ := zcl_o hf
      have hc1 : cells + (s4.1 - τ.1) ≤ M := by omega
      have hs1 : slots + (s4.2.1 - τ.2.1) ≤ S := by omega
      refine va_calli (va_runV (As := []) (rest := []) ⟨hx, hb, hml, hown, hts⟩ (mtJ2_size l D cA ζ τ x2 K (x3, s4) hx3 (s4.1 - τ.1) (s4.2.1 - τ.2.1) (Nat.add_sub_cancel' hle.1) (Nat.add_sub_cancel' hle.2)) (cwV 0 hts (lw_V q200 q201 q202 q87 q203) rfl rfl rfl (by decide +kernel) ⟨Nat.le_of_ble_eq_true rfl, Nat.le_of_ble_eq_true rfl⟩) (z_preV hX hS hH (zob_o hf5) rfl) rfl rfl hl.1 rfl (lv_room (Nat.le_of_ble_eq_true rfl)) dX0_goesBack_4 ⟨hc1, hs1⟩) hS (fun q _ hq => hq) (fun q hq => hq) (fun r u t H1 locs ht hvm hw hB hz hk hS => ?_)
      obtain ⟨hw1, hw2⟩ := Prod.mk.inj hw.symm; subst hw1; subst hw2
      have hH : zH D cA ζ s4 H1 := z_at ht.symm hB
      have hcs : s.heap.size + (cells + (s4.1 - τ.1)) = s4.1 := by omega
      have hss : sl0 + (slots + (s4.2.1 - τ.2.1)) = s4.2.1 := by omega
      replace hcM := And.intro hc1 hs1
      generalize cells + (s4.1 - τ.1) = cells at hcs hcM ⊢; generalize slots + (s4.2.1 - τ.2.1) = slots at hss hcM ⊢
      clear hB hk hz hvm ht hle hck hc1 hs1; generalize H1 = H at hH hS ⊢
      refine lv_iload_n hx hb dX0_goesBack_7 rfl (lv_at hl 1 rfl) ?_
      refine lv_icmp_le (tgt := 31) hx hb dX0_goesBack_8 (by decide) (fun c8 => ?_) (fun c8 => ?_)
      · have hf := dz_t c8 hf
        refine lv_aload_n hx hb dX0_goesBack_31 rfl (lv_at hl 0 rfl) ?_
        refine lv_iload_n hx hb dX0_goesBack_32 rfl (lv_at hl 1 rfl) ?_
        obtain ⟨f8, hf8, hf⟩ := dz_bo hf
        obtain ⟨x6, s7, hx6, hle, hck, hf⟩ := zcl_o hf
        have hc1 : cells + (s7.1 - s4.1) ≤ M := by omega
        have hs1 : slots + (s7.2.1 - s4.2.1) ≤ S := by omega
        refine va_callv (va_runV (As := [.int v1]) (rest := []) ⟨hx, hb, hml, hown, hts⟩ (mtX0_changes l D cA ζ s4 v0 v1 K (x6, s7) hx6 (s7.1 - s4.1) (s7.2.1 - s4.2.1) (Nat.add_sub_cancel' hle.1) (Nat.add_sub_cancel' hle.2)) (cwV 1 hts (lw_V q872 q874 qs13 q84 q875) rfl rfl rfl (by decide +kernel) ⟨Nat.le_of_ble_eq_true rfl, Nat.le_of_ble_eq_true rfl⟩) (z_preV hX hS hH (zob_o hf8) rfl) rfl rfl hl.1 rfl (lv_room (Nat.le_of_ble_eq_true rfl)) dX0_goesBack_33 ⟨hc1, hs1⟩) hS (fun q _ hq => hq) (fun q hq => hq) (fun u t H1 locs ht hvm hw hB hz hk hS => ?_)
        obtain ⟨-, hw2⟩ := Prod.mk.inj hw.symm; subst hw2
        have hH : zH D cA ζ s7 H1 := z_at ht.symm hB
        have hcs : s.heap.size + (cells + (s7.1 - s4.1)) = s7.1 := by omega
        have hss : sl0 + (slots + (s7.2.1 - s4.2.1)) = s7.2.1 := by omega
        replace hcM := And.intro hc1 hs1
        generalize cells + (s7.1 - s4.1) = cells at hcs hcM ⊢; generalize slots + (s7.2.1 - s4.2.1) = slots at hss hcM ⊢
        clear hB hk hz hvm ht hle hck hc1 hs1; generalize H1 = H at hH hS ⊢
        obtain ⟨hM1, hS1⟩ : cells = M ∧ slots = S := by have hq := congrArg Prod.snd (Option.some.inj hf); rw [← hq] at hM hS0; have hM : s.heap.size + M = s7.1 := hM; have hS0 : sl0 + S = s7.2.1 := hS0; omega
        refine W.widen (k := M) (n := S) (Nat.le_of_eq hM1) (Nat.le_of_eq hS1) ?_
        exact W.vret hx hb hr (fun t ht hW => ⟨⟨s7, rfl, Option.some.inj hf, z_at ht hH⟩, hS.F ht⟩) hS.2.2 dX0_goesBack_36
      · have hf := dz_f c8 hf
        refine lv_aload_n hx hb dX0_goesBack_11 rfl (lv_at hl 0 rfl) ?_
        obtain ⟨f9, hf9, hf⟩ := dz_bo hf
        obtain ⟨x10, hx10, hf⟩ := dz_bo hf
        refine va_get (C := RX0) (T := TX0) (N := 7) hx hb hts in_X0 hown hX.K (zrd_P hX hS hH (zob_o hf9)) 0 rfl rfl 0 (by decide) (hts _ q156) (fun _ hq => hq) (zvr_o hx10) dX0_goesBack_12 ?_
        refine lv_aload_n hx hb dX0_goesBack_15 rfl (lv_at hl 0 rfl) ?_
        obtain ⟨f11, hf11, hf⟩ := dz_bo hf
        obtain ⟨x12, hx12, hf⟩ := dz_bo hf
        refine va_get (C := RX0) (T := TX0) (N := 7) hx hb hts in_X0 hown hX.K (zrd_P hX hS hH (zob_o hf11)) 0 rfl rfl 0 (by decide) (hts _ q156) (fun _ hq => hq) (zvr_o hx12) dX0_goesBack_16 ?_
        obtain ⟨f15, hf15, hf⟩ := dz_bo hf
        obtain ⟨x13, s14, hx13, hle, hck, hf⟩ := zcl_o hf
        have hc1 : cells + (s14.1 - s4.1) ≤ M := by omega
        have hs1 : slots + (s14.2.1 - s4.2.1) ≤ S := by omega
        refine va_calli (va_runV (As := []) (rest := [.ref x10]) ⟨hx, hb, hml, hown, hts⟩ (mtJ2_size l D cA ζ s4 x12 K (x13, s14) hx13 (s14.1 - s4.1) (s14.2.1 - s4.2.1) (Nat.add_sub_cancel' hle.1) (Nat.add_sub_cancel' hle.2)) (cwV 0 hts (lw_V q200 q201 q202 q87 q203) rfl rfl rfl (by decide +kernel) ⟨Nat.le_of_ble_eq_true rfl, Nat.le_of_ble_eq_true rfl⟩) (z_preV hX hS hH (zob_o hf15) rfl) rfl rfl hl.1 rfl (lv_room (Nat.le_of_ble_eq_true rfl)) dX0_goesBack_19 ⟨hc1, hs1⟩) hS (fun q _ hq => hq) (fun q hq => hq) (fun r u t H1 locs ht hvm hw hB hz hk hS => ?_)
        obtain ⟨hw1, hw2⟩ := Prod.mk.inj hw.symm; subst hw1; subst hw2
        have hH : zH D cA ζ s14 H1 := z_at ht.symm hB
        have hcs : s.heap.size + (cells + (s14.1 - s4.1)) = s14.1 := by omega
        have hss : sl0 + (slots + (s14.2.1 - s4.2.1)) = s14.2.1 := by omega
        replace hcM := And.intro hc1 hs1
        generalize cells + (s14.1 - s4.1) = cells at hcs hcM ⊢; generalize slots + (s14.2.1 - s4.2.1) = slots at hss hcM ⊢
        clear hB hk hz hvm ht hle hck hc1 hs1; generalize H1 = H at hH hS ⊢
        refine lv_iconst (v := 1) hx hb dX0_goesBack_22 (by decide) ?_
        refine lv_isub hx hb dX0_goesBack_23 ?_
        obtain ⟨f18, hf18, hf⟩ := dz_bo hf
        obtain ⟨x16, s17, hx16, hle, hck, hf⟩ := zcl_o hf
        have hc1 : cells + (s17.1 - s14.1) ≤ M := by omega
        have hs1 : slots + (s17.2.1 - s14.2.1) ≤ S := by omega
        refine va_callr (va_runV (As := [.int (x13 - 1)]) (rest := []) ⟨hx, hb, hml, hown, hts⟩ (mtJ2_remove l D cA ζ s14 x10 (x13 - 1) K (x16, s17) hx16 (s17.1 - s14.1) (s17.2.1 - s14.2.1) (Nat.add_sub_cancel' hle.1) (Nat.add_sub_cancel' hle.2)) (cwV 1 hts (lw_V q863 q864 q865 q87 q866) rfl rfl rfl (by decide +kernel) ⟨Nat.le_of_ble_eq_true rfl, Nat.le_of_ble_eq_true rfl⟩) (z_preV hX hS hH (zob_o hf18) rfl) rfl rfl hl.1 rfl (lv_room (Nat.le_of_ble_eq_true rfl)) dX0_goesBack_24 ⟨hc1, hs1⟩) hS (fun q _ hq => hq) (fun q hq => hq) (fun u r t H1 locs ht hvm hw hB hz hk hS => ?_)
        obtain ⟨hw, hB⟩ := hB
        obtain ⟨hw1, hw2⟩ := Prod.mk.inj hw.symm; subst hw1; subst hw2
        have hH : zH D cA ζ s17 H1 := z_at ht.symm hB
        have hcs : s.heap.size + (cells + (s17.1 - s14.1)) = s17.1 := by omega
        have hss : sl0 + (slots + (s17.2.1 - s14.2.1)) = s17.2.1 := by omega
        replace hcM := And.intro hc1 hs1
        generalize cells + (s17.1 - s14.1) = cells at hcs hcM ⊢; generalize slots + (s17.2.1 - s14.2.1) = slots at hss hcM ⊢
        clear hB hk hz hvm ht hle hck hc1 hs1; generalize H1 = H at hH hS ⊢
        refine lv_pop hx hb dX0_goesBack_27 rfl ?_
        refine lv_goto (tgt := 0) hx hb dX0_goesBack_28 (by decide) ?_
        exact ih v0 v1 s17 H locs cells slots hH hS hcs hss hcM ls (lv_sub hl [0, 1] rfl) hf
set_option maxHeartbeats 4000000 in
set_option maxRecDepth 100000 in
theorem mtX0_goesBack (l : Launch) (D : va_G) (cA : Nat → ClassId) (ζ : pZ) (τ : pH) (h : Nat) (a0 : Int32) (K : Nat) (res : (Unit × pH)) (hf : fnX0_goesBack K ζ h a0 τ = some res) (M S : Nat) (hM : τ.1 + M = res.2.1) (hS0 : τ.2.1 + S = res.2.2.1) : Met l yX0_goesBack (ws_ yX0_goesBack cX0_goesBack 2 (none)) ({ frames := 3, cells := M, slots := S, locals := 106 }) (zPc D cA ζ τ [.ref h, .int a0]) (zQv D cA ζ res) M S (zA ζ) := by
  refine Met.ofW (cc := cX0_goesBack) (maxL := 2) (ret := none) (by decide +kernel) rfl ?_
  intro p e s m args below meth c s₁ B hml hv
  obtain ⟨rfl, hX, hH⟩ := hv
  have hx := B.exec
  have hb := B.bytes
  have hr := B.returns
  have hts := atoms_spec (ws := ws_ yX0_goesBack cX0_goesBack 2 (none)) B.pre
  have hts : ∀ w ∈ lw_all, w.before _ s = true := fun w h => hts w (List.mem_cons_of_mem _ h)
  have hown : s.vm.findClass RX0 = some m.cls := findClass_of_methodNamed B.named
  have hlocks := B.notSynchronized
  have hM : s.heap.size + M = res.2.1 := by rw [hH.1]; exact hM
  have hcs : s.heap.size + 0 = τ.1 := hH.1
  have hss : τ.2.1 + 0 = τ.2.1 := rfl
  generalize hsl0 : τ.2.1 = sl0 at hS0 hss
  have hss : sl0 + 0 = τ.2.1 := by rw [hsl0]; rfl
  have hS : va_S (zA ζ) s.heap s.heap [] := va_S.rf
  generalize hHe : s.heap = H at hH hS ⊢
  have hS : va_S (zA ζ) s.heap H [] := by rw [hHe]; exact hS
  generalize ([] : List Loc) = locs at hS ⊢
  have hl := lv_entry ([.ref h, .int a0]) (n := 2) (Nat.le_of_ble_eq_true rfl)
  rw [lg_entry_eq]
  generalize (lg_sl ([.ref h, .int a0]) ++ List.replicate (2 - (lg_sl ([.ref h, .int a0])).length) Slot.unset).toArray = ls at hl ⊢
  have hl : lv_has ls 2 [(0, .ref h), (1, .int a0)] := hl
  have hf : ((lfX0_goesBack K ζ K) h a0 τ : Option (Unit × pH)) = some res := hf
  refine z_gen (fun cells slots hc0 hs0 => ?_)
  have hcs : s.heap.size + cells = τ.1 := by rw [hc0]; exact hcs
  have hss : sl0 + slots = τ.2.1 := by rw [hs0]; exact hss
  have hcM : cells ≤ M ∧ slots ≤ S := by rw [hc0, hs0]; exact ⟨Nat.zero_le _, Nat.zero_le _⟩
  clear hc0 hs0
  have ih := wlX0_goesBack (l := l) (e := e) (below := below) (D := D) (cA := cA) hX K res M S sl0 hM hS0 h a0 hx hb hr hlocks hml hown hts K
  exact ih h a0 τ H locs cells slots hH hS hcs hss hcM ls (lv_sub hl [0, 1] rfl) hf

noncomputable def fnX7_lays (K : Nat) (ζ : pZ) (h : Nat) (τ : pH) : Option (Unit × pH) := some ((), τ)
set_option maxHeartbeats 4000000 in
set_option maxRecDepth 100000 in
theorem mtX7_lays (l : Launch) (D : va_G) (cA : Nat → ClassId) (ζ : pZ) (τ : pH) (h : Nat) (K : Nat) (res : (Unit × pH)) (hf : fnX7_lays K ζ h τ = some res) (M S : Nat) (hM : τ.1 + M = res.2.1) (hS0 : τ.2.1 + S = res.2.2.1) : Met l yX7_lays (ws_ yX7_lays cX7_lays 1 (none)) ({ frames := 0, cells := M, slots := S, locals := 0 }) (zPc D cA ζ τ [.ref h]) (zQv D cA ζ res) M S (zA ζ) := by
  refine Met.ofW (cc := cX7_lays) (maxL := 1) (ret := none) (by decide +kernel) rfl ?_
  intro p e s m args below meth c s₁ B hml hv
  obtain ⟨rfl, hX, hH⟩ := hv
  have hx := B.exec
  have hb := B.bytes
  have hr := B.returns
  have hts := atoms_spec (ws := ws_ yX7_lays cX7_lays 1 (none)) B.pre
  have hts : ∀ w ∈ lw_all, w.before _ s = true := fun w h => hts w (List.mem_cons_of_mem _ h)
  have hown : s.vm.findClass RX7 = some m.cls := findClass_of_methodNamed B.named
  have hlocks := B.notSynchronized
  have hM : s.heap.size + M = res.2.1 := by rw [hH.1]; exact hM
  have hcs : s.heap.size + 0 = τ.1 := hH.1
  have hss : τ.2.1 + 0 = τ.2.1 := rfl
  generalize hsl0 : τ.2.1 = sl0 at hS0 hss
  have hss : sl0 + 0 = τ.2.1 := by rw [hsl0]; rfl
  have hS : va_S (zA ζ) s.heap s.heap [] := va_S.rf
  generalize hHe : s.heap = H at hH hS ⊢
  have hS : va_S (zA ζ) s.heap H [] := by rw [hHe]; exact hS
  generalize ([] : List Loc) = locs at hS ⊢
  have hl := lv_entry ([.ref h]) (n := 1) (Nat.le_of_ble_eq_true rfl)
  rw [lg_entry_eq]
  generalize (lg_sl ([.ref h]) ++ List.replicate (1 - (lg_sl ([.ref h])).length) Slot.unset).toArray = ls at hl ⊢
  have hl : lv_has ls 1 [(0, .ref h)] := hl
  have hf : (some ((), τ) : Option (Unit × pH)) = some res := hf
  refine z_gen (fun cells slots hc0 hs0 => ?_)
  have hcs : s.heap.size + cells = τ.1 := by rw [hc0]; exact hcs
  have hss : sl0 + slots = τ.2.1 := by rw [hs0]; exact hss
  have hcM : cells ≤ M ∧ slots ≤ S := by rw [hc0, hs0]; exact ⟨Nat.zero_le _, Nat.zero_le _⟩
  clear hc0 hs0
  obtain ⟨hM1, hS1⟩ : cells = M ∧ slots = S := by have hq := congrArg Prod.snd (Option.some.inj hf); rw [← hq] at hM hS0; have hM : s.heap.size + M = τ.1 := hM; have hS0 : sl0 + S = τ.2.1 := hS0; omega
  refine W.widen (k := M) (n := S) (Nat.le_of_eq hM1) (Nat.le_of_eq hS1) ?_
  exact W.vret hx hb hr (fun t ht hW => ⟨⟨τ, rfl, Option.some.inj hf, z_at ht hH⟩, hS.F ht⟩) hS.2.2 dX7_lays_0

noncomputable def lfX6_laysAll_6 (K : Nat) (ζ : pZ) : Nat → (Nat → Nat → pH → Option (Unit × pH)) := Nat.rec (motive := fun _ => (Nat → Nat → pH → Option (Unit × pH))) (fun _ _ _ => none) (fun _ G => (fun v1 v4 τ => dz_b (zob ζ τ v4 2) fun f3 => zcl τ (fnX2_hasNext K ζ v4 τ) fun x1 s2 => if x1 = (0 : Int32) then (some ((), s2)) else (dz_b (zob ζ s2 v4 2) fun f6 => zcl s2 (fnX2_next K ζ v4 s2) fun x4 s5 => dz_b (zob ζ s5 x4 11) fun f7 => dz_b (zob ζ s5 v1 10) fun f10 => zcl s5 (fnX8_adds K ζ v1 x4 s5) fun x8 s9 => G v1 v4 s9)))
noncomputable def fnX6_laysAll_6 (K : Nat) (ζ : pZ) (h : Nat) (a0 : Nat) (a1 : Int64) (τ : pH) : Option (Unit × pH) := zcl τ (fnX0_factors K ζ a1 τ) fun x1 s2 => dz_b (zob ζ s2 x1 10) fun f5 => zcl s2 (fnX8_iterator K ζ x1 s2) fun x3 s4 => (lfX6_laysAll_6 K ζ K) a0 x3 s4
set_option maxHeartbeats 4000000 in
set_option maxRecDepth 100000 in
theorem wlX6_laysAll_6 {p : Program} {l : Launch} {e : Env} {s : State} {m : MethodId} {below : List Frame} {meth : Method} {c : Code} {D : va_G} {cA : Nat → ClassId} {ζ : pZ} (hX : zX D cA ζ s) (K : Nat) (res : (Unit × pH)) (M S sl0 : Nat) (hM : s.heap.size + M = res.2.1) (hS0 : sl0 + S = res.2.2.1) (h : Nat) (a0 : Nat) (a1 : Int64) (hx : p.tables.exec = Jvm.exec) (hb : c.code = cX6_laysAll) (hr : meth.sig.returnType = none) (hlocks : meth.locks = false) (hml : c.maxLocals = 6) (hown : s.vm.findClass RX6 = some m.cls) (hts : ∀ w ∈ lw_all, w.before ([.ref h, .ref a0, .long a1] : List Value).toArray s = true) : ∀ k : Nat, (∀ (v1 : Nat) (v4 : Nat) (τ : pH) (H : Heap) (locs : List Loc) (cells slots : Nat), zH D cA ζ τ H → va_S (zA ζ) s.heap H locs → s.heap.size + cells = τ.1 → sl0 + slots = τ.2.1 → cells ≤ M ∧ slots ≤ S → ∀ (ls : Array Slot), lv_has ls 6 [(1, .ref v1), (4, .ref v4)] → (lfX6_laysAll_6 K ζ k) v1 v4 τ = some res → W p l e (headSpec (ws_ yX6_laysAll cX6_laysAll 6 (none)) ({ frames := 3, cells := M, slots := S, locals := 71 })).room s m ([.ref h, .ref a0, .long a1] : List Value).toArray below meth c H locs cells slots (MQ below (zQv D cA ζ res) ([.ref h, .ref a0, .long a1] : List Value).toArray s M S (zA ζ)) (F0 m 9 ls [])) := by
  intro k
  induction k with
  | zero =>
    exact fun _ _ _ _ _ _ _ _ _ _ _ _ _ _ hf => (by cases hf)
  | succ k ih =>
    · intro v1 v4 τ H locs cells slots hH hS hcs hss hcM ls hl hf
      have hf : (dz_b (zob ζ τ v4 2) fun f3 => zcl τ (fnX2_hasNext K ζ v4 τ) fun x1 s2 => if x1 = (0 : Int32) then (some ((), s2)) else (dz_b (zob ζ s2 v4 2) fun f6 => zcl s2 (fnX2_next K ζ v4 s2) fun x4 s5 => dz_b (zob ζ s5 x4 11) fun f7 => dz_b (zob ζ s5 v1 10) fun f10 => zcl s5 (fnX8_adds K ζ v1 x4 s5) fun x8 s9 => (lfX6_laysAll_6 K ζ k) v1 v4 s9) : Option (Unit × pH)) = some res := hf
      refine lv_aload hx hb dX6_laysAll_9 (lv_at hl 1 rfl) ?_
      obtain ⟨f3, hf3, hf⟩ := dz_bo hf
      obtain ⟨x1, s2, hx1, hle, hck, hf⟩ := zcl_o hf
      have hc1 : cells + (s2.1 - τ.1) ≤ M := by omega
      have hs1 : slots + (s2.2.1 - τ.2.1) ≤ S := by omega
      refine va_callFi (va_runF (hX.K.1 2 _ rfl).2 (As := []) (rest := []) ⟨hx, hb, hml, hown, hts⟩ (mtX2_hasNext l D cA ζ τ v4 K (x1, s2) hx1 (s2.1 - τ.1) (s2.2.1 - τ.2.1) (Nat.add_sub_cancel' hle.1) (Nat.add_sub_cancel' hle.2)) (va_cwF 0 hts (zF_in q263 q267 q269 q91 q271) rfl rfl rfl (hX.F 0 rfl) (by decide +kernel) ⟨Nat.le_of_ble_eq_true rfl, Nat.le_of_ble_eq_true rfl⟩) (z_preV hX hS hH (zob_o hf3) rfl) rfl rfl hl.1 rfl (lv_room (Nat.le_of_ble_eq_true rfl)) dX6_laysAll_11 ⟨hc1, hs1⟩) hS (fun q _ hq => hq) (fun q hq => hq) (fun r u t H1 locs ht hvm hw hB hz hk hS => ?_)
      obtain ⟨hw1, hw2⟩ := Prod.mk.inj hw.symm; subst hw1; subst hw2
      have hH : zH D cA ζ s2 H1 := z_at ht.symm hB
      have hcs : s.heap.size + (cells + (s2.1 - τ.1)) = s2.1 := by omega
      have hss : sl0 + (slots + (s2.2.1 - τ.2.1)) = s2.2.1 := by omega
      replace hcM := And.intro hc1 hs1
      generalize cells + (s2.1 - τ.1) = cells at hcs hcM ⊢; generalize slots + (s2.2.1 - τ.2.1) = slots at hss hcM ⊢
      clear hB hk hz hvm ht hle hck hc1 hs1; generalize H1 = H at hH hS ⊢
      refine lv_if_eq (tgt := 41) hx hb dX6_laysAll_16 (by decide) (fun c16 => ?_) (fun c16 => ?_)
      · have hf := dz_t c16 hf
        obtain ⟨hM1, hS1⟩ : cells = M ∧ slots = S := by have hq := congrArg Prod.snd (Option.some.inj hf); rw [← hq] at hM hS0; have hM : s.heap.size + M = s2.1 := hM; have hS0 : sl0 + S = s2.2.1 := hS0; omega
        refine W.widen (k := M) (n := S) (Nat.le_of_eq hM1) (Nat.le_of_eq hS1) ?_
        exact W.vret hx hb hr (fun t ht hW => ⟨⟨s2, rfl, Option.some.inj hf, z_at ht hH⟩, hS.F ht⟩) hS.2.2 dX6_laysAll_41
      · have hf := dz_f c16 hf
        refine lv_aload hx hb dX6_laysAll_19 (lv_at hl 1 rfl) ?_
        obtain ⟨f6, hf6, hf⟩ := dz_bo hf
        obtain ⟨x4, s5, hx4, hle, hck, hf⟩ := zcl_o hf
        have hc1 : cells + (s5.1 - s2.1) ≤ M := by omega
        have hs1 : slots + (s5.2.1 - s2.2.1) ≤ S := by omega
        refine va_callFr (va_runF (hX.K.1 2 _ rfl).2 (As := []) (rest := []) ⟨hx, hb, hml, hown, hts⟩ (mtX2_next l D cA ζ s2 v4 K (x4, s5) hx4 (s5.1 - s2.1) (s5.2.1 - s2.2.1) (Nat.add_sub_cancel' hle.1) (Nat.add_sub_cancel' hle.2)) (va_cwF 0 hts (zF_in q279 q282 q284 q91 q286) rfl rfl rfl (hX.F 1 rfl) (by decide +kernel) ⟨Nat.le_of_ble_eq_true rfl, Nat.le_of_ble_eq_true rfl⟩) (z_preV hX hS hH (zob_o hf6) rfl) rfl rfl hl.1 rfl (lv_room (Nat.le_of_ble_eq_true rfl)) dX6_laysAll_21 ⟨hc1, hs1⟩) hS (fun q _ hq => hq) (fun q hq => hq) (fun u r t H1 locs ht hvm hw hB hz hk hS => ?_)
        obtain ⟨hw, hB⟩ := hB
        obtain ⟨hw1, hw2⟩ := Prod.mk.inj hw.symm; subst hw1; subst hw2
        have hH : zH D cA ζ s5 H1 := z_at ht.symm hB
        have hcs : s.heap.size + (cells + (s5.1 - s2.1)) = s5.1 := by omega
        have hss : sl0 + (slots + (s5.2.1 - s2.2.1)) = s5.2.1 := by omega
        replace hcM := And.intro hc1 hs1
        generalize cells + (s5.1 - s2.1) = cells at hcs hcM ⊢; generalize slots + (s5.2.1 - s2.2.1) = slots at hss hcM ⊢
        clear hB hk hz hvm ht hle hck hc1 hs1; generalize H1 = H at hH hS ⊢
        obtain ⟨f7, hf7, hf⟩ := dz_bo hf
        refine va_castS (nm := RX13) hx hb hown (hts _ q300) (hX.K.1 11 _ rfl).2 (va_recv hX.K (zrd_P hX hS hH (zob_o hf7)) (ci := 11) (q0 := 0) rfl rfl) dX6_laysAll_26 ?_
        refine lv_astore (lv' := [(5, .ref x4), (1, .ref v1), (4, .ref v4)]) hx hb dX6_laysAll_29 hl (by decide) rfl (fun ls hl => ?_)
        refine lv_aload_n hx hb dX6_laysAll_31 rfl (lv_at hl 1 rfl) ?_
        refine lv_aload hx hb dX6_laysAll_32 (lv_at hl 0 rfl) ?_
        obtain ⟨f10, hf10, hf⟩ := dz_bo hf
        obtain ⟨x8, s9, hx8, hle, hck, hf⟩ := zcl_o hf
        have hc1 : cells + (s9.1 - s5.1) ≤ M := by omega
        have hs1 : slots + (s9.2.1 - s5.2.1) ≤ S := by omega
        refine va_callr (va_runV (As := [.ref x4]) (rest := []) ⟨hx, hb, hml, hown, hts⟩ (mtX8_adds l D cA ζ s5 v1 x4 K (x8, s9) hx8 (s9.1 - s5.1) (s9.2.1 - s5.2.1) (Nat.add_sub_cancel' hle.1) (Nat.add_sub_cancel' hle.2)) (cwV 1 hts (lw_V q717 q702 q703 q98 q704) rfl rfl rfl (by decide +kernel) ⟨Nat.le_of_ble_eq_true rfl, Nat.le_of_ble_eq_true rfl⟩) (z_preV hX hS hH (zob_o hf10) rfl) rfl rfl hl.1 rfl (lv_room (Nat.le_of_ble_eq_true rfl)) dX6_laysAll_34 ⟨hc1, hs1⟩) hS (fun q _ hq => hq) (fun q hq => hq) (fun u r t H1 locs ht hvm hw hB hz hk hS => ?_)
        obtain ⟨hw, hB⟩ := hB
        obtain ⟨hw1, hw2⟩ := Prod.mk.inj hw.symm; subst hw1; subst hw2
        have hH : zH D cA ζ s9 H1 := z_at ht.symm hB
        have hcs : s.heap.size + (cells + (s9.1 - s5.1)) = s9.1 := by omega
        have hss : sl0 + (slots + (s9.2.1 - s5.2.1)) = s9.2.1 := by omega
        replace hcM := And.intro hc1 hs1
        generalize cells + (s9.1 - s5.1) = cells at hcs hcM ⊢; generalize slots + (s9.2.1 - s5.2.1) = slots at hss hcM ⊢
        clear hB hk hz hvm ht hle hck hc1 hs1; generalize H1 = H at hH hS ⊢
        refine lv_pop hx hb dX6_laysAll_37 rfl ?_
        refine lv_goto (tgt := 9) hx hb dX6_laysAll_38 (by decide) ?_
        exact ih v1 v4 s9 H locs cells slots hH hS hcs hss hcM ls (lv_sub hl [1, 2] rfl) hf
set_option maxHeartbeats 4000000 in
set_option maxRecDepth 100000 in
theorem mtX6_laysAll_6 (l : Launch) (D : va_G) (cA : Nat → ClassId) (ζ : pZ) (τ : pH) (h : Nat) (a0 : Nat) (a1 : Int64) (K : Nat) (res : (Unit × pH)) (hf : fnX6_laysAll_6 K ζ h a0 a1 τ = some res) (M S : Nat) (hM : τ.1 + M = res.2.1) (hS0 : τ.2.1 + S = res.2.2.1) : Met l yX6_laysAll (ws_ yX6_laysAll cX6_laysAll 6 (none)) ({ frames := 3, cells := M, slots := S, locals := 71 }) (zPc D cA ζ τ [.ref h, .ref a0, .long a1]) (zQv D cA ζ res) M S (zA ζ) := by
  refine Met.ofW (cc := cX6_laysAll) (maxL := 6) (ret := none) (by decide +kernel) rfl ?_
  intro p e s m args below meth c s₁ B hml hv
  obtain ⟨rfl, hX, hH⟩ := hv
  have hx := B.exec
  have hb := B.bytes
  have hr := B.returns
  have hts := atoms_spec (ws := ws_ yX6_laysAll cX6_laysAll 6 (none)) B.pre
  have hts : ∀ w ∈ lw_all, w.before _ s = true := fun w h => hts w (List.mem_cons_of_mem _ h)
  have hown : s.vm.findClass RX6 = some m.cls := findClass_of_methodNamed B.named
  have hlocks := B.notSynchronized
  have hM : s.heap.size + M = res.2.1 := by rw [hH.1]; exact hM
  have hcs : s.heap.size + 0 = τ.1 := hH.1
  have hss : τ.2.1 + 0 = τ.2.1 := rfl
  generalize hsl0 : τ.2.1 = sl0 at hS0 hss
  have hss : sl0 + 0 = τ.2.1 := by rw [hsl0]; rfl
  have hS : va_S (zA ζ) s.heap s.heap [] := va_S.rf
  generalize hHe : s.heap = H at hH hS ⊢
  have hS : va_S (zA ζ) s.heap H [] := by rw [hHe]; exact hS
  generalize ([] : List Loc) = locs at hS ⊢
  have hl := lv_entry ([.ref h, .ref a0, .long a1]) (n := 6) (Nat.le_of_ble_eq_true rfl)
  rw [lg_entry_eq]
  generalize (lg_sl ([.ref h, .ref a0, .long a1]) ++ List.replicate (6 - (lg_sl ([.ref h, .ref a0, .long a1])).length) Slot.unset).toArray = ls at hl ⊢
  have hl : lv_has ls 6 [(0, .ref h), (1, .ref a0), (2, .long a1)] := hl
  have hf : (zcl τ (fnX0_factors K ζ a1 τ) fun x1 s2 => dz_b (zob ζ s2 x1 10) fun f5 => zcl s2 (fnX8_iterator K ζ x1 s2) fun x3 s4 => (lfX6_laysAll_6 K ζ K) a0 x3 s4 : Option (Unit × pH)) = some res := hf
  refine z_gen (fun cells slots hc0 hs0 => ?_)
  have hcs : s.heap.size + cells = τ.1 := by rw [hc0]; exact hcs
  have hss : sl0 + slots = τ.2.1 := by rw [hs0]; exact hss
  have hcM : cells ≤ M ∧ slots ≤ S := by rw [hc0, hs0]; exact ⟨Nat.zero_le _, Nat.zero_le _⟩
  clear hc0 hs0
  have ih := wlX6_laysAll_6 (l := l) (e := e) (below := below) (D := D) (cA := cA) hX K res M S sl0 hM hS0 h a0 a1 hx hb hr hlocks hml hown hts K
  refine lv_lload_n hx hb dX6_laysAll_0 rfl (lv_at hl 2 rfl) ?_
  obtain ⟨x1, s2, hx1, hle, hck, hf⟩ := zcl_o hf
  have hc1 : cells + (s2.1 - τ.1) ≤ M := by omega
  have hs1 : slots + (s2.2.1 - τ.2.1) ≤ S := by omega
  refine va_callr (va_runSN (As := [.long a1]) (rest := []) ⟨hx, hb, hml, hown, hts⟩ (mtX0_factors l D cA ζ τ a1 K (x1, s2) hx1 (s2.1 - τ.1) (s2.2.1 - τ.2.1) (Nat.add_sub_cancel' hle.1) (Nat.add_sub_cancel' hle.2)) ⟨va_cnB 1 hts (lw_meth q674) rfl rfl rfl (hX.N q716 rfl) (hts _ q84) (by decide +kernel) ⟨Nat.le_of_ble_eq_true rfl, Nat.le_of_ble_eq_true rfl⟩, hts _ q673, trivial⟩ (z_preS hX hS hH) rfl rfl hl.1 rfl (lv_room (Nat.le_of_ble_eq_true rfl)) dX6_laysAll_1 ⟨hc1, hs1⟩) hS (fun q _ hq => hq) (fun q hq => hq) (fun u r t H1 locs ht hvm hw hB hz hk hS => ?_)
  obtain ⟨hw, hB⟩ := hB
  obtain ⟨hw1, hw2⟩ := Prod.mk.inj hw.symm; subst hw1; subst hw2
  have hH : zH D cA ζ s2 H1 := z_at ht.symm hB
  have hcs : s.heap.size + (cells + (s2.1 - τ.1)) = s2.1 := by omega
  have hss : sl0 + (slots + (s2.2.1 - τ.2.1)) = s2.2.1 := by omega
  replace hcM := And.intro hc1 hs1
  generalize cells + (s2.1 - τ.1) = cells at hcs hcM ⊢; generalize slots + (s2.2.1 - τ.2.1) = slots at hss hcM ⊢
  clear hB hk hz hvm ht hle hck hc1 hs1; generalize H1 = H at hH hS ⊢
  obtain ⟨f5, hf5, hf⟩ := dz_bo hf
  obtain ⟨x3, s4, hx3, hle, hck, hf⟩ := zcl_o hf
  have hc1 : cells + (s4.1 - s2.1) ≤ M := by omega
  have hs1 : slots + (s4.2.1 - s2.2.1) ≤ S := by omega
  refine va_callr (va_runV (As := []) (rest := []) ⟨hx, hb, hml, hown, hts⟩ (mtX8_iterator l D cA ζ s2 x1 K (x3, s4) hx3 (s4.1 - s2.1) (s4.2.1 - s2.2.1) (Nat.add_sub_cancel' hle.1) (Nat.add_sub_cancel' hle.2)) (cwV 0 hts (lw_V q245 q246 q247 q98 q248) rfl rfl rfl (by decide +kernel) ⟨Nat.le_of_ble_eq_true rfl, Nat.le_of_ble_eq_true rfl⟩) (z_preV hX hS hH (zob_o hf5) rfl) rfl rfl hl.1 rfl (lv_room (Nat.le_of_ble_eq_true rfl)) dX6_laysAll_4 ⟨hc1, hs1⟩) hS (fun q _ hq => hq) (fun q hq => hq) (fun u r t H1 locs ht hvm hw hB hz hk hS => ?_)
  obtain ⟨hw, hB⟩ := hB
  obtain ⟨hw1, hw2⟩ := Prod.mk.inj hw.symm; subst hw1; subst hw2
  have hH : zH D cA ζ s4 H1 := z_at ht.symm hB
  have hcs : s.heap.size + (cells + (s4.1 - s2.1)) = s4.1 := by omega
  have hss : sl0 + (slots + (s4.2.1 - s2.2.1)) = s4.2.1 := by omega
  replace hcM := And.intro hc1 hs1
  generalize cells + (s4.1 - s2.1) = cells at hcs hcM ⊢; generalize slots + (s4.2.1 - s2.2.1) = slots at hss hcM ⊢
  clear hB hk hz hvm ht hle hck hc1 hs1; generalize H1 = H at hH hS ⊢
  refine lv_astore (lv' := [(4, .ref x3), (0, .ref h), (1, .ref a0), (2, .long a1)]) hx hb dX6_laysAll_7 hl (by decide) rfl (fun ls hl => ?_)
  exact ih a0 x3 s4 H locs cells slots hH hS hcs hss hcM ls (lv_sub hl [2, 0] rfl) hf

noncomputable def fnX9_lays (K : Nat) (ζ : pZ) (h : Nat) (τ : pH) : Option (Unit × pH) := dz_b (zob ζ τ h 6) fun f1 => dz_b (zvr (f1[4]?)) fun x2 => dz_b (zob ζ τ h 6) fun f3 => dz_b (zvl (f3[0]?)) fun x4 => dz_b (zob ζ τ h 6) fun f7 => zcl τ (fnX6_laysAll_6 K ζ h x2 (x4 - 1) τ) fun _ s6 => some ((), s6)
set_option maxHeartbeats 4000000 in
set_option maxRecDepth 100000 in
theorem mtX9_lays (l : Launch) (D : va_G) (cA : Nat → ClassId) (ζ : pZ) (τ : pH) (h : Nat) (K : Nat) (res : (Unit × pH)) (hf : fnX9_lays K ζ h τ = some res) (M S : Nat) (hM : τ.1 + M = res.2.1) (hS0 : τ.2.1 + S = res.2.2.1) : Met l yX9_lays (ws_ yX9_lays cX9_lays 1 (none)) ({ frames := 4, cells := M, slots := S, locals := 96 }) (zPc D cA ζ τ [.ref h]) (zQv D cA ζ res) M S (zA ζ) := by
  refine Met.ofW (cc := cX9_lays) (maxL := 1) (ret := none) (by decide +kernel) rfl ?_
  intro p e s m args below meth c s₁ B hml hv
  obtain ⟨rfl, hX, hH⟩ := hv
  have hx := B.exec
  have hb := B.bytes
  have hr := B.returns
  have hts := atoms_spec (ws := ws_ yX9_lays cX9_lays 1 (none)) B.pre
  have hts : ∀ w ∈ lw_all, w.before _ s = true := fun w h => hts w (List.mem_cons_of_mem _ h)
  have hown : s.vm.findClass RX9 = some m.cls := findClass_of_methodNamed B.named
  have hlocks := B.notSynchronized
  have hM : s.heap.size + M = res.2.1 := by rw [hH.1]; exact hM
  have hcs : s.heap.size + 0 = τ.1 := hH.1
  have hss : τ.2.1 + 0 = τ.2.1 := rfl
  generalize hsl0 : τ.2.1 = sl0 at hS0 hss
  have hss : sl0 + 0 = τ.2.1 := by rw [hsl0]; rfl
  have hS : va_S (zA ζ) s.heap s.heap [] := va_S.rf
  generalize hHe : s.heap = H at hH hS ⊢
  have hS : va_S (zA ζ) s.heap H [] := by rw [hHe]; exact hS
  generalize ([] : List Loc) = locs at hS ⊢
  have hl := lv_entry ([.ref h]) (n := 1) (Nat.le_of_ble_eq_true rfl)
  rw [lg_entry_eq]
  generalize (lg_sl ([.ref h]) ++ List.replicate (1 - (lg_sl ([.ref h])).length) Slot.unset).toArray = ls at hl ⊢
  have hl : lv_has ls 1 [(0, .ref h)] := hl
  have hf : (dz_b (zob ζ τ h 6) fun f1 => dz_b (zvr (f1[4]?)) fun x2 => dz_b (zob ζ τ h 6) fun f3 => dz_b (zvl (f3[0]?)) fun x4 => dz_b (zob ζ τ h 6) fun f7 => zcl τ (fnX6_laysAll_6 K ζ h x2 (x4 - 1) τ) fun _ s6 => some ((), s6) : Option (Unit × pH)) = some res := hf
  refine z_gen (fun cells slots hc0 hs0 => ?_)
  have hcs : s.heap.size + cells = τ.1 := by rw [hc0]; exact hcs
  have hss : sl0 + slots = τ.2.1 := by rw [hs0]; exact hss
  have hcM : cells ≤ M ∧ slots ≤ S := by rw [hc0, hs0]; exact ⟨Nat.zero_le _, Nat.zero_le _⟩
  clear hc0 hs0
  refine lv_aload_n hx hb dX9_lays_0 rfl (lv_at hl 0 rfl) ?_
  refine lv_aload_n hx hb dX9_lays_1 rfl (lv_at hl 0 rfl) ?_
  obtain ⟨f1, hf1, hf⟩ := dz_bo hf
  obtain ⟨x2, hx2, hf⟩ := dz_bo hf
  refine va_get (C := RX9) (T := TX9) (N := 8) hx hb hts in_X9 hown hX.K (zrd_P hX hS hH (zob_o hf1)) 0 rfl rfl 4 (by decide) (hts _ q551) (fun x hq => u_same (hts _ q552) x hq) (zvr_o hx2) dX9_lays_2 ?_
  refine lv_aload_n hx hb dX9_lays_5 rfl (lv_at hl 0 rfl) ?_
  obtain ⟨f3, hf3, hf⟩ := dz_bo hf
  obtain ⟨x4, hx4, hf⟩ := dz_bo hf
  refine va_get (C := RX9) (T := TX9) (N := 8) hx hb hts in_X9 hown hX.K (zrd_P hX hS hH (zob_o hf3)) 0 rfl rfl 0 (by decide) (hts _ q539) (fun x hq => u_same (hts _ q540) x hq) (zvl_o hx4) dX9_lays_6 ?_
  refine lv_lconst (v := 1) hx hb dX9_lays_9 rfl ?_
  refine lv_lsub hx hb dX9_lays_10 ?_
  obtain ⟨f7, hf7, hf⟩ := dz_bo hf
  obtain ⟨x5, s6, hx5, hle, hck, hf⟩ := zcl_o hf
  have hc1 : cells + (s6.1 - τ.1) ≤ M := by omega
  have hs1 : slots + (s6.2.1 - τ.2.1) ≤ S := by omega
  refine va_callv (va_runU (x := ⟨"PrimeProofs$Pratt", "laysAll", "(LPrimeProofs$Rows;J)V"⟩) (owner := "PrimeProofs$Line") (As := [.ref x2, .long (x4 - 1)]) (rest := []) ⟨hx, hb, hml, hown, hts⟩ (mtX6_laysAll_6 l D cA ζ τ h x2 (x4 - 1) K (x5, s6) hx5 (s6.1 - τ.1) (s6.2.1 - τ.2.1) (Nat.add_sub_cancel' hle.1) (Nat.add_sub_cancel' hle.2)) (va_cwA 2 hts (zU_in q727 q728 q729 q714 q96 q715) rfl rfl rfl (hX.N q712 rfl) (by decide +kernel) ⟨Nat.le_of_ble_eq_true rfl, Nat.le_of_ble_eq_true rfl⟩) (z_preV hX hS hH (zob_o hf7) rfl) rfl rfl hl.1 rfl (lv_room (Nat.le_of_ble_eq_true rfl)) dX9_lays_11 ⟨hc1, hs1⟩) hS (fun q _ hq => hq) (fun q hq => hq) (fun u t H1 locs ht hvm hw hB hz hk hS => ?_)
  obtain ⟨-, hw2⟩ := Prod.mk.inj hw.symm; subst hw2
  have hH : zH D cA ζ s6 H1 := z_at ht.symm hB
  have hcs : s.heap.size + (cells + (s6.1 - τ.1)) = s6.1 := by omega
  have hss : sl0 + (slots + (s6.2.1 - τ.2.1)) = s6.2.1 := by omega
  replace hcM := And.intro hc1 hs1
  generalize cells + (s6.1 - τ.1) = cells at hcs hcM ⊢; generalize slots + (s6.2.1 - τ.2.1) = slots at hss hcM ⊢
  clear hB hk hz hvm ht hle hck hc1 hs1; generalize H1 = H at hH hS ⊢
  obtain ⟨hM1, hS1⟩ : cells = M ∧ slots = S := by have hq := congrArg Prod.snd (Option.some.inj hf); rw [← hq] at hM hS0; have hM : s.heap.size + M = s6.1 := hM; have hS0 : sl0 + S = s6.2.1 := hS0; omega
  refine W.widen (k := M) (n := S) (Nat.le_of_eq hM1) (Nat.le_of_eq hS1) ?_
  exact W.vret hx hb hr (fun t ht hW => ⟨⟨s6, rfl, Option.some.inj hf, z_at ht hH⟩, hS.F ht⟩) hS.2.2 dX9_lays_14

noncomputable def lfX10_lays (K : Nat) (ζ : pZ) : Nat → (Nat → Nat → Int32 → pH → Option (Unit × pH)) := Nat.rec (motive := fun _ => (Nat → Nat → Int32 → pH → Option (Unit × pH))) (fun _ _ _ _ => none) (fun _ G => (fun v0 v1 v2 τ => if v2 < (0 : Int32) then (some ((), τ)) else (dz_b (zob ζ τ v0 7) fun f3 => zcl τ (fnX10_isEnough K ζ v0 τ) fun x1 s2 => if x1 = (0 : Int32) then (dz_b (zob ζ s2 v0 7) fun f4 => dz_b (zvr (f4[4]?)) fun x5 => dz_b (zob ζ s2 v1 10) fun f6 => dz_b (zvr (f6[0]?)) fun x7 => dz_c (zaq ζ s2 x7 5) fun n8 f9 => if ¬ (v2 < 0 ∨ n8 ≤ Int32.toNatClampNeg v2) then (dz_b (f9 (Int32.toNatClampNeg v2)) fun x11 => dz_b (zob ζ s2 x5 10) fun f14 => zcl s2 (fnX8_adds K ζ x5 x11 s2) fun x12 s13 => dz_l (v2 + (-1)) fun x15 => G v0 v1 x15 s13) else none) else (some ((), s2)))))
noncomputable def fnX10_lays (K : Nat) (ζ : pZ) (h : Nat) (τ : pH) : Option (Unit × pH) := dz_b (zob ζ τ h 7) fun f1 => dz_b (zvl (f1[0]?)) fun x2 => zcl τ (fnX0_factors K ζ (x2 - 1) τ) fun x3 s4 => dz_b (zob ζ s4 x3 10) fun f5 => dz_b (zvi (f5[1]?)) fun x6 => dz_l (x6 - 1) fun x7 => (lfX10_lays K ζ K) h x3 x7 s4
set_option maxHeartbeats 4000000 in
set_option maxRecDepth 100000 in
theorem wlX10_lays {p : Program} {l : Launch} {e : Env} {s : State} {m : MethodId} {below : List Frame} {meth : Method} {c : Code} {D : va_G} {cA : Nat → ClassId} {ζ : pZ} (hX : zX D cA ζ s) (K : Nat) (res : (Unit × pH)) (M S sl0 : Nat) (hM : s.heap.size + M = res.2.1) (hS0 : sl0 + S = res.2.2.1) (h : Nat) (hx : p.tables.exec = Jvm.exec) (hb : c.code = cX10_lays) (hr : meth.sig.returnType = none) (hlocks : meth.locks = false) (hml : c.maxLocals = 3) (hown : s.vm.findClass RX10 = some m.cls) (hts : ∀ w ∈ lw_all, w.before ([.ref h] : List Value).toArray s = true) : ∀ k : Nat, (∀ (v0 : Nat) (v1 : Nat) (v2 : Int32) (τ : pH) (H : Heap) (locs : List Loc) (cells slots : Nat), zH D cA ζ τ H → va_S (zA ζ) s.heap H locs → s.heap.size + cells = τ.1 → sl0 + slots = τ.2.1 → cells ≤ M ∧ slots ≤ S → ∀ (ls : Array Slot), lv_has ls 3 [(0, .ref v0), (1, .ref v1), (2, .int v2)] → (lfX10_lays K ζ k) v0 v1 v2 τ = some res → W p l e (headSpec (ws_ yX10_lays cX10_lays 3 (none)) ({ frames := 5, cells := M, slots := S, locals := 106 })).room s m ([.ref h] : List Value).toArray below meth c H locs cells slots (MQ below (zQv D cA ζ res) ([.ref h] : List Value).toArray s M S (zA ζ)) (F0 m 17 ls [])) := by
  intro k
  induction k with
  | zero =>
    exact fun _ _ _ _ _ _ _ _ _ _ _ _ _ _ _ hf => (by cases hf)
  | succ k ih =>
    · intro v0 v1 v2 τ H locs cells slots hH hS hcs hss hcM ls hl hf
      have hf : (if v2 < (0 : Int32) then (some ((), τ)) else (dz_b (zob ζ τ v0 7) fun f3 => zcl τ (fnX10_isEnough K ζ v0 τ) fun x1 s2 => if x1 = (0 : Int32) then (dz_b (zob ζ s2 v0 7) fun f4 => dz_b (zvr (f4[4]?)) fun x5 => dz_b (zob ζ s2 v1 10) fun f6 => dz_b (zvr (f6[0]?)) fun x7 => dz_c (zaq ζ s2 x7 5) fun n8 f9 => if ¬ (v2 < 0 ∨ n8 ≤ Int32.toNatClampNeg v2) then (dz_b (f9 (Int32.toNatClampNeg v2)) fun x11 => dz_b (zob ζ s2 x5 10) fun f14 => zcl s2 (fnX8_adds K ζ x5 x11 s2) fun x12 s13 => dz_l (v2 + (-1)) fun x15 => (lfX10_lays K ζ k) v0 v1 x15 s13) else none) else (some ((), s2))) : Option (Unit × pH)) = some res := hf
      refine lv_iload_n hx hb dX10_lays_17 rfl (lv_at hl 2 rfl) ?_
      refine lv_if_lt (tgt := 48) hx hb dX10_lays_18 (by decide) (fun c18 => ?_) (fun c18 => ?_)
      · have hf := dz_t c18 hf
        obtain ⟨hM1, hS1⟩ : cells = M ∧ slots = S := by have hq := congrArg Prod.snd (Option.some.inj hf); rw [← hq] at hM hS0; have hM : s.heap.size + M = τ.1 := hM; have hS0 : sl0 + S = τ.2.1 := hS0; omega
        refine W.widen (k := M) (n := S) (Nat.le_of_eq hM1) (Nat.le_of_eq hS1) ?_
        exact W.vret hx hb hr (fun t ht hW => ⟨⟨τ, rfl, Option.some.inj hf, z_at ht hH⟩, hS.F ht⟩) hS.2.2 dX10_lays_48
      · have hf := dz_f c18 hf
        refine lv_aload_n hx hb dX10_lays_21 rfl (lv_at hl 0 rfl) ?_
        obtain ⟨f3, hf3, hf⟩ := dz_bo hf
        obtain ⟨x1, s2, hx1, hle, hck, hf⟩ := zcl_o hf
        have hc1 : cells + (s2.1 - τ.1) ≤ M := by omega
        have hs1 : slots + (s2.2.1 - τ.2.1) ≤ S := by omega
        refine va_calli (va_runV (As := []) (rest := []) ⟨hx, hb, hml, hown, hts⟩ (mtX10_isEnough l D cA ζ τ v0 K (x1, s2) hx1 (s2.1 - τ.1) (s2.2.1 - τ.2.1) (Nat.add_sub_cancel' hle.1) (Nat.add_sub_cancel' hle.2)) (cwV 0 hts (lw_V q722 q353 q2201 q100 q354) rfl rfl rfl (by decide +kernel) ⟨Nat.le_of_ble_eq_true rfl, Nat.le_of_ble_eq_true rfl⟩) (z_preV hX hS hH (zob_o hf3) rfl) rfl rfl hl.1 rfl (lv_room (Nat.le_of_ble_eq_true rfl)) dX10_lays_22 ⟨hc1, hs1⟩) hS (fun q _ hq => hq) (fun q hq => hq) (fun r u t H1 locs ht hvm hw hB hz hk hS => ?_)
        obtain ⟨hw1, hw2⟩ := Prod.mk.inj hw.symm; subst hw1; subst hw2
        have hH : zH D cA ζ s2 H1 := z_at ht.symm hB
        have hcs : s.heap.size + (cells + (s2.1 - τ.1)) = s2.1 := by omega
        have hss : sl0 + (slots + (s2.2.1 - τ.2.1)) = s2.2.1 := by omega
        replace hcM := And.intro hc1 hs1
        generalize cells + (s2.1 - τ.1) = cells at hcs hcM ⊢; generalize slots + (s2.2.1 - τ.2.1) = slots at hss hcM ⊢
        clear hB hk hz hvm ht hle hck hc1 hs1; generalize H1 = H at hH hS ⊢
        refine lv_if_ne (tgt := 48) hx hb dX10_lays_25 (by decide) (fun c25 => ?_) (fun c25 => ?_)
        · have hf := dz_f c25 hf
          obtain ⟨hM1, hS1⟩ : cells = M ∧ slots = S := by have hq := congrArg Prod.snd (Option.some.inj hf); rw [← hq] at hM hS0; have hM : s.heap.size + M = s2.1 := hM; have hS0 : sl0 + S = s2.2.1 := hS0; omega
          refine W.widen (k := M) (n := S) (Nat.le_of_eq hM1) (Nat.le_of_eq hS1) ?_
          exact W.vret hx hb hr (fun t ht hW => ⟨⟨s2, rfl, Option.some.inj hf, z_at ht hH⟩, hS.F ht⟩) hS.2.2 dX10_lays_48
        · have hf := dz_t c25 hf
          refine lv_aload_n hx hb dX10_lays_28 rfl (lv_at hl 0 rfl) ?_
          obtain ⟨f4, hf4, hf⟩ := dz_bo hf
          obtain ⟨x5, hx5, hf⟩ := dz_bo hf
          refine va_get (C := RX10) (T := TX10) (N := 8) hx hb hts in_X10 hown hX.K (zrd_P hX hS hH (zob_o hf4)) 0 rfl rfl 4 (by decide) (hts _ q555) (fun x hq => u_same (hts _ q556) x hq) (zvr_o hx5) dX10_lays_29 ?_
          refine lv_aload_n hx hb dX10_lays_32 rfl (lv_at hl 1 rfl) ?_
          obtain ⟨f6, hf6, hf⟩ := dz_bo hf
          obtain ⟨x7, hx7, hf⟩ := dz_bo hf
          refine va_getN (C := RX8) (T := TX8) (N := 2) hx hb hts in_X8 hown hX.K (zrd_P hX hS hH (zob_o hf6)) 0 rfl rfl 0 (by decide) ((hX.N q517 rfl).use rfl) (fun _ hq => hq) (zvr_o hx7) dX10_lays_33 ?_
          refine lv_iload_n hx hb dX10_lays_36 rfl (lv_at hl 2 rfl) ?_
          obtain ⟨n8, f9, hn8, hf⟩ := dz_co hf
          obtain ⟨g10, hf⟩ := dz_go hf
          obtain ⟨x11, hx11, hf⟩ := dz_bo hf
          refine va_aldq hx hb hX.K (zrd_P hX hS hH (zaq_o hn8)) 0 5 rfl rfl g10 dX10_lays_37 ?_
          rw [hx11]
          refine W.eq (g2 := F0 m 38 ls (.ref x11 :: [.ref x5])) rfl ?_
          obtain ⟨f14, hf14, hf⟩ := dz_bo hf
          obtain ⟨x12, s13, hx12, hle, hck, hf⟩ := zcl_o hf
          have hc1 : cells + (s13.1 - s2.1) ≤ M := by omega
          have hs1 : slots + (s13.2.1 - s2.2.1) ≤ S := by omega
          refine va_callr (va_runV (As := [.ref x11]) (rest := []) ⟨hx, hb, hml, hown, hts⟩ (mtX8_adds l D cA ζ s2 x5 x11 K (x12, s13) hx12 (s13.1 - s2.1) (s13.2.1 - s2.2.1) (Nat.add_sub_cancel' hle.1) (Nat.add_sub_cancel' hle.2)) (cwV 1 hts (lw_V q723 q702 q703 q98 q704) rfl rfl rfl (by decide +kernel) ⟨Nat.le_of_ble_eq_true rfl, Nat.le_of_ble_eq_true rfl⟩) (z_preV hX hS hH (zob_o hf14) rfl) rfl rfl hl.1 rfl (lv_room (Nat.le_of_ble_eq_true rfl)) dX10_lays_38 ⟨hc1, hs1⟩) hS (fun q _ hq => hq) (fun q hq => hq) (fun u r t H1 locs ht hvm hw hB hz hk hS => ?_)
          obtain ⟨hw, hB⟩ := hB
          obtain ⟨hw1, hw2⟩ := Prod.mk.inj hw.symm; subst hw1; subst hw2
          have hH : zH D cA ζ s13 H1 := z_at ht.symm hB
          have hcs : s.heap.size + (cells + (s13.1 - s2.1)) = s13.1 := by omega
          have hss : sl0 + (slots + (s13.2.1 - s2.2.1)) = s13.2.1 := by omega
          replace hcM := And.intro hc1 hs1
          generalize cells + (s13.1 - s2.1) = cells at hcs hcM ⊢; generalize slots + (s13.2.1 - s2.2.1) = slots at hss hcM ⊢
          clear hB hk hz hvm ht hle hck hc1 hs1; generalize H1 = H at hH hS ⊢
          refine lv_pop hx hb dX10_lays_41 rfl ?_
          obtain ⟨x15, e_x15, hf⟩ := dz_lo hf
          refine lv_iinc (v := x15) (lv' := [(2, .int x15), (0, .ref v0), (1, .ref v1)]) hx hb dX10_lays_42 hl (k := 2) rfl (by rw [e_x15]; rfl) (by decide) rfl (fun ls hl => ?_)
          refine lv_goto (tgt := 17) hx hb dX10_lays_45 (by decide) ?_
          exact ih v0 v1 x15 s13 H locs cells slots hH hS hcs hss hcM ls (lv_sub hl [1, 2, 0] rfl) hf
set_option maxHeartbeats 4000000 in
set_option maxRecDepth 100000 in
theorem mtX10_lays (l : Launch) (D : va_G) (cA : Nat → ClassId) (ζ : pZ) (τ : pH) (h : Nat) (K : Nat) (res : (Unit × pH)) (hf : fnX10_lays K ζ h τ = some res) (M S : Nat) (hM : τ.1 + M = res.2.1) (hS0 : τ.2.1 + S = res.2.2.1) : Met l yX10_lays (ws_ yX10_lays cX10_lays 3 (none)) ({ frames := 5, cells := M, slots := S, locals := 106 }) (zPc D cA ζ τ [.ref h]) (zQv D cA ζ res) M S (zA ζ) := by
  refine Met.ofW (cc := cX10_lays) (maxL := 3) (ret := none) (by decide +kernel) rfl ?_
  intro p e s m args below meth c s₁ B hml hv
  obtain ⟨rfl, hX, hH⟩ := hv
  have hx := B.exec
  have hb := B.bytes
  have hr := B.returns
  have hts := atoms_spec (ws := ws_ yX10_lays cX10_lays 3 (none)) B.pre
  have hts : ∀ w ∈ lw_all, w.before _ s = true := fun w h => hts w (List.mem_cons_of_mem _ h)
  have hown : s.vm.findClass RX10 = some m.cls := findClass_of_methodNamed B.named
  have hlocks := B.notSynchronized
  have hM : s.heap.size + M = res.2.1 := by rw [hH.1]; exact hM
  have hcs : s.heap.size + 0 = τ.1 := hH.1
  have hss : τ.2.1 + 0 = τ.2.1 := rfl
  generalize hsl0 : τ.2.1 = sl0 at hS0 hss
  have hss : sl0 + 0 = τ.2.1 := by rw [hsl0]; rfl
  have hS : va_S (zA ζ) s.heap s.heap [] := va_S.rf
  generalize hHe : s.heap = H at hH hS ⊢
  have hS : va_S (zA ζ) s.heap H [] := by rw [hHe]; exact hS
  generalize ([] : List Loc) = locs at hS ⊢
  have hl := lv_entry ([.ref h]) (n := 3) (Nat.le_of_ble_eq_true rfl)
  rw [lg_entry_eq]
  generalize (lg_sl ([.ref h]) ++ List.replicate (3 - (lg_sl ([.ref h])).length) Slot.unset).toArray = ls at hl ⊢
  have hl : lv_has ls 3 [(0, .ref h)] := hl
  have hf : (dz_b (zob ζ τ h 7) fun f1 => dz_b (zvl (f1[0]?)) fun x2 => zcl τ (fnX0_factors K ζ (x2 - 1) τ) fun x3 s4 => dz_b (zob ζ s4 x3 10) fun f5 => dz_b (zvi (f5[1]?)) fun x6 => dz_l (x6 - 1) fun x7 => (lfX10_lays K ζ K) h x3 x7 s4 : Option (Unit × pH)) = some res := hf
  refine z_gen (fun cells slots hc0 hs0 => ?_)
  have hcs : s.heap.size + cells = τ.1 := by rw [hc0]; exact hcs
  have hss : sl0 + slots = τ.2.1 := by rw [hs0]; exact hss
  have hcM : cells ≤ M ∧ slots ≤ S := by rw [hc0, hs0]; exact ⟨Nat.zero_le _, Nat.zero_le _⟩
  clear hc0 hs0
  have ih := wlX10_lays (l := l) (e := e) (below := below) (D := D) (cA := cA) hX K res M S sl0 hM hS0 h hx hb hr hlocks hml hown hts K
  refine lv_aload_n hx hb dX10_lays_0 rfl (lv_at hl 0 rfl) ?_
  obtain ⟨f1, hf1, hf⟩ := dz_bo hf
  obtain ⟨x2, hx2, hf⟩ := dz_bo hf
  refine va_get (C := RX10) (T := TX10) (N := 8) hx hb hts in_X10 hown hX.K (zrd_P hX hS hH (zob_o hf1)) 0 rfl rfl 0 (by decide) (hts _ q535) (fun x hq => u_same (hts _ q536) x hq) (zvl_o hx2) dX10_lays_1 ?_
  refine lv_lconst (v := 1) hx hb dX10_lays_4 rfl ?_
  refine lv_lsub hx hb dX10_lays_5 ?_
  obtain ⟨x3, s4, hx3, hle, hck, hf⟩ := zcl_o hf
  have hc1 : cells + (s4.1 - τ.1) ≤ M := by omega
  have hs1 : slots + (s4.2.1 - τ.2.1) ≤ S := by omega
  refine va_callr (va_runSN (As := [.long (x2 - 1)]) (rest := []) ⟨hx, hb, hml, hown, hts⟩ (mtX0_factors l D cA ζ τ (x2 - 1) K (x3, s4) hx3 (s4.1 - τ.1) (s4.2.1 - τ.2.1) (Nat.add_sub_cancel' hle.1) (Nat.add_sub_cancel' hle.2)) ⟨va_cnB 1 hts (lw_meth q674) rfl rfl rfl (hX.N q721 rfl) (hts _ q84) (by decide +kernel) ⟨Nat.le_of_ble_eq_true rfl, Nat.le_of_ble_eq_true rfl⟩, hts _ q673, trivial⟩ (z_preS hX hS hH) rfl rfl hl.1 rfl (lv_room (Nat.le_of_ble_eq_true rfl)) dX10_lays_6 ⟨hc1, hs1⟩) hS (fun q _ hq => hq) (fun q hq => hq) (fun u r t H1 locs ht hvm hw hB hz hk hS => ?_)
  obtain ⟨hw, hB⟩ := hB
  obtain ⟨hw1, hw2⟩ := Prod.mk.inj hw.symm; subst hw1; subst hw2
  have hH : zH D cA ζ s4 H1 := z_at ht.symm hB
  have hcs : s.heap.size + (cells + (s4.1 - τ.1)) = s4.1 := by omega
  have hss : sl0 + (slots + (s4.2.1 - τ.2.1)) = s4.2.1 := by omega
  replace hcM := And.intro hc1 hs1
  generalize cells + (s4.1 - τ.1) = cells at hcs hcM ⊢; generalize slots + (s4.2.1 - τ.2.1) = slots at hss hcM ⊢
  clear hB hk hz hvm ht hle hck hc1 hs1; generalize H1 = H at hH hS ⊢
  refine lv_astore_n (lv' := [(1, .ref x3), (0, .ref h)]) hx hb dX10_lays_9 rfl hl (by decide) rfl (fun ls hl => ?_)
  refine lv_aload_n hx hb dX10_lays_10 rfl (lv_at hl 0 rfl) ?_
  obtain ⟨f5, hf5, hf⟩ := dz_bo hf
  obtain ⟨x6, hx6, hf⟩ := dz_bo hf
  refine va_getN (C := RX8) (T := TX8) (N := 2) hx hb hts in_X8 hown hX.K (zrd_P hX hS hH (zob_o hf5)) 0 rfl rfl 1 (by decide) ((hX.N q522 rfl).use rfl) (fun _ hq => hq) (zvi_o hx6) dX10_lays_11 ?_
  refine lv_iconst (v := 1) hx hb dX10_lays_14 (by decide) ?_
  refine lv_isub hx hb dX10_lays_15 ?_
  refine lv_topi (fun x7 e_x7 => ?_)
  have hf := dz_ls e_x7 hf
  refine lv_istore_n (lv' := [(2, .int x7), (1, .ref x3), (0, .ref h)]) hx hb dX10_lays_16 rfl hl (by decide) rfl (fun ls hl => ?_)
  exact ih h x3 x7 s4 H locs cells slots hH hS hcs hss hcM ls (lv_sub hl [2, 1, 0] rfl) hf

noncomputable def lfX6_laysAll_8 (K : Nat) (ζ : pZ) : Nat → (Nat → Nat → pH → Option (Unit × pH)) := Nat.rec (motive := fun _ => (Nat → Nat → pH → Option (Unit × pH))) (fun _ _ _ => none) (fun _ G => (fun v1 v4 τ => dz_b (zob ζ τ v4 2) fun f3 => zcl τ (fnX2_hasNext K ζ v4 τ) fun x1 s2 => if x1 = (0 : Int32) then (some ((), s2)) else (dz_b (zob ζ s2 v4 2) fun f6 => zcl s2 (fnX2_next K ζ v4 s2) fun x4 s5 => dz_b (zob ζ s5 x4 11) fun f7 => dz_b (zob ζ s5 v1 10) fun f10 => zcl s5 (fnX8_adds K ζ v1 x4 s5) fun x8 s9 => G v1 v4 s9)))
noncomputable def fnX6_laysAll_8 (K : Nat) (ζ : pZ) (h : Nat) (a0 : Nat) (a1 : Int64) (τ : pH) : Option (Unit × pH) := zcl τ (fnX0_factors K ζ a1 τ) fun x1 s2 => dz_b (zob ζ s2 x1 10) fun f5 => zcl s2 (fnX8_iterator K ζ x1 s2) fun x3 s4 => (lfX6_laysAll_8 K ζ K) a0 x3 s4
set_option maxHeartbeats 4000000 in
set_option maxRecDepth 100000 in
theorem wlX6_laysAll_8 {p : Program} {l : Launch} {e : Env} {s : State} {m : MethodId} {below : List Frame} {meth : Method} {c : Code} {D : va_G} {cA : Nat → ClassId} {ζ : pZ} (hX : zX D cA ζ s) (K : Nat) (res : (Unit × pH)) (M S sl0 : Nat) (hM : s.heap.size + M = res.2.1) (hS0 : sl0 + S = res.2.2.1) (h : Nat) (a0 : Nat) (a1 : Int64) (hx : p.tables.exec = Jvm.exec) (hb : c.code = cX6_laysAll) (hr : meth.sig.returnType = none) (hlocks : meth.locks = false) (hml : c.maxLocals = 6) (hown : s.vm.findClass RX6 = some m.cls) (hts : ∀ w ∈ lw_all, w.before ([.ref h, .ref a0, .long a1] : List Value).toArray s = true) : ∀ k : Nat, (∀ (v1 : Nat) (v4 : Nat) (τ : pH) (H : Heap) (locs : List Loc) (cells slots : Nat), zH D cA ζ τ H → va_S (zA ζ) s.heap H locs → s.heap.size + cells = τ.1 → sl0 + slots = τ.2.1 → cells ≤ M ∧ slots ≤ S → ∀ (ls : Array Slot), lv_has ls 6 [(1, .ref v1), (4, .ref v4)] → (lfX6_laysAll_8 K ζ k) v1 v4 τ = some res → W p l e (headSpec (ws_ yX6_laysAll cX6_laysAll 6 (none)) ({ frames := 3, cells := M, slots := S, locals := 71 })).room s m ([.ref h, .ref a0, .long a1] : List Value).toArray below meth c H locs cells slots (MQ below (zQv D cA ζ res) ([.ref h, .ref a0, .long a1] : List Value).toArray s M S (zA ζ)) (F0 m 9 ls [])) := by
  intro k
  induction k with
  | zero =>
    exact fun _ _ _ _ _ _ _ _ _ _ _ _ _ _ hf => (by cases hf)
  | succ k ih =>
    · intro v1 v4 τ H locs cells slots hH hS hcs hss hcM ls hl hf
      have hf : (dz_b (zob ζ τ v4 2) fun f3 => zcl τ (fnX2_hasNext K ζ v4 τ) fun x1 s2 => if x1 = (0 : Int32) then (some ((), s2)) else (dz_b (zob ζ s2 v4 2) fun f6 => zcl s2 (fnX2_next K ζ v4 s2) fun x4 s5 => dz_b (zob ζ s5 x4 11) fun f7 => dz_b (zob ζ s5 v1 10) fun f10 => zcl s5 (fnX8_adds K ζ v1 x4 s5) fun x8 s9 => (lfX6_laysAll_8 K ζ k) v1 v4 s9) : Option (Unit × pH)) = some res := hf
      refine lv_aload hx hb dX6_laysAll_9 (lv_at hl 1 rfl) ?_
      obtain ⟨f3, hf3, hf⟩ := dz_bo hf
      obtain ⟨x1, s2, hx1, hle, hck, hf⟩ := zcl_o hf
      have hc1 : cells + (s2.1 - τ.1) ≤ M := by omega
      have hs1 : slots + (s2.2.1 - τ.2.1) ≤ S := by omega
      refine va_callFi (va_runF (hX.K.1 2 _ rfl).2 (As := []) (rest := []) ⟨hx, hb, hml, hown, hts⟩ (mtX2_hasNext l D cA ζ τ v4 K (x1, s2) hx1 (s2.1 - τ.1) (s2.2.1 - τ.2.1) (Nat.add_sub_cancel' hle.1) (Nat.add_sub_cancel' hle.2)) (va_cwF 0 hts (zF_in q263 q267 q269 q91 q271) rfl rfl rfl (hX.F 0 rfl) (by decide +kernel) ⟨Nat.le_of_ble_eq_true rfl, Nat.le_of_ble_eq_true rfl⟩) (z_preV hX hS hH (zob_o hf3) rfl) rfl rfl hl.1 rfl (lv_room (Nat.le_of_ble_eq_true rfl)) dX6_laysAll_11 ⟨hc1, hs1⟩) hS (fun q _ hq => hq) (fun q hq => hq) (fun r u t H1 locs ht hvm hw hB hz hk hS => ?_)
      obtain ⟨hw1, hw2⟩ := Prod.mk.inj hw.symm; subst hw1; subst hw2
      have hH : zH D cA ζ s2 H1 := z_at ht.symm hB
      have hcs : s.heap.size + (cells + (s2.1 - τ.1)) = s2.1 := by omega
      have hss : sl0 + (slots + (s2.2.1 - τ.2.1)) = s2.2.1 := by omega
      replace hcM := And.intro hc1 hs1
      generalize cells + (s2.1 - τ.1) = cells at hcs hcM ⊢; generalize slots + (s2.2.1 - τ.2.1) = slots at hss hcM ⊢
      clear hB hk hz hvm ht hle hck hc1 hs1; generalize H1 = H at hH hS ⊢
      refine lv_if_eq (tgt := 41) hx hb dX6_laysAll_16 (by decide) (fun c16 => ?_) (fun c16 => ?_)
      · have hf := dz_t c16 hf
        obtain ⟨hM1, hS1⟩ : cells = M ∧ slots = S := by have hq := congrArg Prod.snd (Option.some.inj hf); rw [← hq] at hM hS0; have hM : s.heap.size + M = s2.1 := hM; have hS0 : sl0 + S = s2.2.1 := hS0; omega
        refine W.widen (k := M) (n := S) (Nat.le_of_eq hM1) (Nat.le_of_eq hS1) ?_
        exact W.vret hx hb hr (fun t ht hW => ⟨⟨s2, rfl, Option.some.inj hf, z_at ht hH⟩, hS.F ht⟩) hS.2.2 dX6_laysAll_41
      · have hf := dz_f c16 hf
        refine lv_aload hx hb dX6_laysAll_19 (lv_at hl 1 rfl) ?_
        obtain ⟨f6, hf6, hf⟩ := dz_bo hf
        obtain ⟨x4, s5, hx4, hle, hck, hf⟩ := zcl_o hf
        have hc1 : cells + (s5.1 - s2.1) ≤ M := by omega
        have hs1 : slots + (s5.2.1 - s2.2.1) ≤ S := by omega
        refine va_callFr (va_runF (hX.K.1 2 _ rfl).2 (As := []) (rest := []) ⟨hx, hb, hml, hown, hts⟩ (mtX2_next l D cA ζ s2 v4 K (x4, s5) hx4 (s5.1 - s2.1) (s5.2.1 - s2.2.1) (Nat.add_sub_cancel' hle.1) (Nat.add_sub_cancel' hle.2)) (va_cwF 0 hts (zF_in q279 q282 q284 q91 q286) rfl rfl rfl (hX.F 1 rfl) (by decide +kernel) ⟨Nat.le_of_ble_eq_true rfl, Nat.le_of_ble_eq_true rfl⟩) (z_preV hX hS hH (zob_o hf6) rfl) rfl rfl hl.1 rfl (lv_room (Nat.le_of_ble_eq_true rfl)) dX6_laysAll_21 ⟨hc1, hs1⟩) hS (fun q _ hq => hq) (fun q hq => hq) (fun u r t H1 locs ht hvm hw hB hz hk hS => ?_)
        obtain ⟨hw, hB⟩ := hB
        obtain ⟨hw1, hw2⟩ := Prod.mk.inj hw.symm; subst hw1; subst hw2
        have hH : zH D cA ζ s5 H1 := z_at ht.symm hB
        have hcs : s.heap.size + (cells + (s5.1 - s2.1)) = s5.1 := by omega
        have hss : sl0 + (slots + (s5.2.1 - s2.2.1)) = s5.2.1 := by omega
        replace hcM := And.intro hc1 hs1
        generalize cells + (s5.1 - s2.1) = cells at hcs hcM ⊢; generalize slots + (s5.2.1 - s2.2.1) = slots at hss hcM ⊢
        clear hB hk hz hvm ht hle hck hc1 hs1; generalize H1 = H at hH hS ⊢
        obtain ⟨f7, hf7, hf⟩ := dz_bo hf
        refine va_castS (nm := RX13) hx hb hown (hts _ q300) (hX.K.1 11 _ rfl).2 (va_recv hX.K (zrd_P hX hS hH (zob_o hf7)) (ci := 11) (q0 := 0) rfl rfl) dX6_laysAll_26 ?_
        refine lv_astore (lv' := [(5, .ref x4), (1, .ref v1), (4, .ref v4)]) hx hb dX6_laysAll_29 hl (by decide) rfl (fun ls hl => ?_)
        refine lv_aload_n hx hb dX6_laysAll_31 rfl (lv_at hl 1 rfl) ?_
        refine lv_aload hx hb dX6_laysAll_32 (lv_at hl 0 rfl) ?_
        obtain ⟨f10, hf10, hf⟩ := dz_bo hf
        obtain ⟨x8, s9, hx8, hle, hck, hf⟩ := zcl_o hf
        have hc1 : cells + (s9.1 - s5.1) ≤ M := by omega
        have hs1 : slots + (s9.2.1 - s5.2.1) ≤ S := by omega
        refine va_callr (va_runV (As := [.ref x4]) (rest := []) ⟨hx, hb, hml, hown, hts⟩ (mtX8_adds l D cA ζ s5 v1 x4 K (x8, s9) hx8 (s9.1 - s5.1) (s9.2.1 - s5.2.1) (Nat.add_sub_cancel' hle.1) (Nat.add_sub_cancel' hle.2)) (cwV 1 hts (lw_V q717 q702 q703 q98 q704) rfl rfl rfl (by decide +kernel) ⟨Nat.le_of_ble_eq_true rfl, Nat.le_of_ble_eq_true rfl⟩) (z_preV hX hS hH (zob_o hf10) rfl) rfl rfl hl.1 rfl (lv_room (Nat.le_of_ble_eq_true rfl)) dX6_laysAll_34 ⟨hc1, hs1⟩) hS (fun q _ hq => hq) (fun q hq => hq) (fun u r t H1 locs ht hvm hw hB hz hk hS => ?_)
        obtain ⟨hw, hB⟩ := hB
        obtain ⟨hw1, hw2⟩ := Prod.mk.inj hw.symm; subst hw1; subst hw2
        have hH : zH D cA ζ s9 H1 := z_at ht.symm hB
        have hcs : s.heap.size + (cells + (s9.1 - s5.1)) = s9.1 := by omega
        have hss : sl0 + (slots + (s9.2.1 - s5.2.1)) = s9.2.1 := by omega
        replace hcM := And.intro hc1 hs1
        generalize cells + (s9.1 - s5.1) = cells at hcs hcM ⊢; generalize slots + (s9.2.1 - s5.2.1) = slots at hss hcM ⊢
        clear hB hk hz hvm ht hle hck hc1 hs1; generalize H1 = H at hH hS ⊢
        refine lv_pop hx hb dX6_laysAll_37 rfl ?_
        refine lv_goto (tgt := 9) hx hb dX6_laysAll_38 (by decide) ?_
        exact ih v1 v4 s9 H locs cells slots hH hS hcs hss hcM ls (lv_sub hl [1, 2] rfl) hf
set_option maxHeartbeats 4000000 in
set_option maxRecDepth 100000 in
theorem mtX6_laysAll_8 (l : Launch) (D : va_G) (cA : Nat → ClassId) (ζ : pZ) (τ : pH) (h : Nat) (a0 : Nat) (a1 : Int64) (K : Nat) (res : (Unit × pH)) (hf : fnX6_laysAll_8 K ζ h a0 a1 τ = some res) (M S : Nat) (hM : τ.1 + M = res.2.1) (hS0 : τ.2.1 + S = res.2.2.1) : Met l yX6_laysAll (ws_ yX6_laysAll cX6_laysAll 6 (none)) ({ frames := 3, cells := M, slots := S, locals := 71 }) (zPc D cA ζ τ [.ref h, .ref a0, .long a1]) (zQv D cA ζ res) M S (zA ζ) := by
  refine Met.ofW (cc := cX6_laysAll) (maxL := 6) (ret := none) (by decide +kernel) rfl ?_
  intro p e s m args below meth c s₁ B hml hv
  obtain ⟨rfl, hX, hH⟩ := hv
  have hx := B.exec
  have hb := B.bytes
  have hr := B.returns
  have hts := atoms_spec (ws := ws_ yX6_laysAll cX6_laysAll 6 (none)) B.pre
  have hts : ∀ w ∈ lw_all, w.before _ s = true := fun w h => hts w (List.mem_cons_of_mem _ h)
  have hown : s.vm.findClass RX6 = some m.cls := findClass_of_methodNamed B.named
  have hlocks := B.notSynchronized
  have hM : s.heap.size + M = res.2.1 := by rw [hH.1]; exact hM
  have hcs : s.heap.size + 0 = τ.1 := hH.1
  have hss : τ.2.1 + 0 = τ.2.1 := rfl
  generalize hsl0 : τ.2.1 = sl0 at hS0 hss
  have hss : sl0 + 0 = τ.2.1 := by rw [hsl0]; rfl
  have hS : va_S (zA ζ) s.heap s.heap [] := va_S.rf
  generalize hHe : s.heap = H at hH hS ⊢
  have hS : va_S (zA ζ) s.heap H [] := by rw [hHe]; exact hS
  generalize ([] : List Loc) = locs at hS ⊢
  have hl := lv_entry ([.ref h, .ref a0, .long a1]) (n := 6) (Nat.le_of_ble_eq_true rfl)
  rw [lg_entry_eq]
  generalize (lg_sl ([.ref h, .ref a0, .long a1]) ++ List.replicate (6 - (lg_sl ([.ref h, .ref a0, .long a1])).length) Slot.unset).toArray = ls at hl ⊢
  have hl : lv_has ls 6 [(0, .ref h), (1, .ref a0), (2, .long a1)] := hl
  have hf : (zcl τ (fnX0_factors K ζ a1 τ) fun x1 s2 => dz_b (zob ζ s2 x1 10) fun f5 => zcl s2 (fnX8_iterator K ζ x1 s2) fun x3 s4 => (lfX6_laysAll_8 K ζ K) a0 x3 s4 : Option (Unit × pH)) = some res := hf
  refine z_gen (fun cells slots hc0 hs0 => ?_)
  have hcs : s.heap.size + cells = τ.1 := by rw [hc0]; exact hcs
  have hss : sl0 + slots = τ.2.1 := by rw [hs0]; exact hss
  have hcM : cells ≤ M ∧ slots ≤ S := by rw [hc0, hs0]; exact ⟨Nat.zero_le _, Nat.zero_le _⟩
  clear hc0 hs0
  have ih := wlX6_laysAll_8 (l := l) (e := e) (below := below) (D := D) (cA := cA) hX K res M S sl0 hM hS0 h a0 a1 hx hb hr hlocks hml hown hts K
  refine lv_lload_n hx hb dX6_laysAll_0 rfl (lv_at hl 2 rfl) ?_
  obtain ⟨x1, s2, hx1, hle, hck, hf⟩ := zcl_o hf
  have hc1 : cells + (s2.1 - τ.1) ≤ M := by omega
  have hs1 : slots + (s2.2.1 - τ.2.1) ≤ S := by omega
  refine va_callr (va_runSN (As := [.long a1]) (rest := []) ⟨hx, hb, hml, hown, hts⟩ (mtX0_factors l D cA ζ τ a1 K (x1, s2) hx1 (s2.1 - τ.1) (s2.2.1 - τ.2.1) (Nat.add_sub_cancel' hle.1) (Nat.add_sub_cancel' hle.2)) ⟨va_cnB 1 hts (lw_meth q674) rfl rfl rfl (hX.N q716 rfl) (hts _ q84) (by decide +kernel) ⟨Nat.le_of_ble_eq_true rfl, Nat.le_of_ble_eq_true rfl⟩, hts _ q673, trivial⟩ (z_preS hX hS hH) rfl rfl hl.1 rfl (lv_room (Nat.le_of_ble_eq_true rfl)) dX6_laysAll_1 ⟨hc1, hs1⟩) hS (fun q _ hq => hq) (fun q hq => hq) (fun u r t H1 locs ht hvm hw hB hz hk hS => ?_)
  obtain ⟨hw, hB⟩ := hB
  obtain ⟨hw1, hw2⟩ := Prod.mk.inj hw.symm; subst hw1; subst hw2
  have hH : zH D cA ζ s2 H1 := z_at ht.symm hB
  have hcs : s.heap.size + (cells + (s2.1 - τ.1)) = s2.1 := by omega
  have hss : sl0 + (slots + (s2.2.1 - τ.2.1)) = s2.2.1 := by omega
  replace hcM := And.intro hc1 hs1
  generalize cells + (s2.1 - τ.1) = cells at hcs hcM ⊢; generalize slots + (s2.2.1 - τ.2.1) = slots at hss hcM ⊢
  clear hB hk hz hvm ht hle hck hc1 hs1; generalize H1 = H at hH hS ⊢
  obtain ⟨f5, hf5, hf⟩ := dz_bo hf
  obtain ⟨x3, s4, hx3, hle, hck, hf⟩ := zcl_o hf
  have hc1 : cells + (s4.1 - s2.1) ≤ M := by omega
  have hs1 : slots + (s4.2.1 - s2.2.1) ≤ S := by omega
  refine va_callr (va_runV (As := []) (rest := []) ⟨hx, hb, hml, hown, hts⟩ (mtX8_iterator l D cA ζ s2 x1 K (x3, s4) hx3 (s4.1 - s2.1) (s4.2.1 - s2.2.1) (Nat.add_sub_cancel' hle.1) (Nat.add_sub_cancel' hle.2)) (cwV 0 hts (lw_V q245 q246 q247 q98 q248) rfl rfl rfl (by decide +kernel) ⟨Nat.le_of_ble_eq_true rfl, Nat.le_of_ble_eq_true rfl⟩) (z_preV hX hS hH (zob_o hf5) rfl) rfl rfl hl.1 rfl (lv_room (Nat.le_of_ble_eq_true rfl)) dX6_laysAll_4 ⟨hc1, hs1⟩) hS (fun q _ hq => hq) (fun q hq => hq) (fun u r t H1 locs ht hvm hw hB hz hk hS => ?_)
  obtain ⟨hw, hB⟩ := hB
  obtain ⟨hw1, hw2⟩ := Prod.mk.inj hw.symm; subst hw1; subst hw2
  have hH : zH D cA ζ s4 H1 := z_at ht.symm hB
  have hcs : s.heap.size + (cells + (s4.1 - s2.1)) = s4.1 := by omega
  have hss : sl0 + (slots + (s4.2.1 - s2.2.1)) = s4.2.1 := by omega
  replace hcM := And.intro hc1 hs1
  generalize cells + (s4.1 - s2.1) = cells at hcs hcM ⊢; generalize slots + (s4.2.1 - s2.2.1) = slots at hss hcM ⊢
  clear hB hk hz hvm ht hle hck hc1 hs1; generalize H1 = H at hH hS ⊢
  refine lv_astore (lv' := [(4, .ref x3), (0, .ref h), (1, .ref a0), (2, .long a1)]) hx hb dX6_laysAll_7 hl (by decide) rfl (fun ls hl => ?_)
  exact ih a0 x3 s4 H locs cells slots hH hS hcs hss hcM ls (lv_sub hl [2, 0] rfl) hf

noncomputable def fnX11_lays (K : Nat) (ζ : pZ) (h : Nat) (τ : pH) : Option (Unit × pH) := dz_b (zob ζ τ h 8) fun f1 => dz_b (zvr (f1[5]?)) fun x2 => dz_b (zob ζ τ h 8) fun f3 => dz_b (zvl (f3[0]?)) fun x4 => dz_b (zob ζ τ h 8) fun f7 => zcl τ (fnX6_laysAll_8 K ζ h x2 (x4 + 1) τ) fun _ s6 => some ((), s6)
set_option maxHeartbeats 4000000 in
set_option maxRecDepth 100000 in
theorem mtX11_lays (l : Launch) (D : va_G) (cA : Nat → ClassId) (ζ : pZ) (τ : pH) (h : Nat) (K : Nat) (res : (Unit × pH)) (hf : fnX11_lays K ζ h τ = some res) (M S : Nat) (hM : τ.1 + M = res.2.1) (hS0 : τ.2.1 + S = res.2.2.1) : Met l yX11_lays (ws_ yX11_lays cX11_lays 1 (none)) ({ frames := 4, cells := M, slots := S, locals := 96 }) (zPc D cA ζ τ [.ref h]) (zQv D cA ζ res) M S (zA ζ) := by
  refine Met.ofW (cc := cX11_lays) (maxL := 1) (ret := none) (by decide +kernel) rfl ?_
  intro p e s m args below meth c s₁ B hml hv
  obtain ⟨rfl, hX, hH⟩ := hv
  have hx := B.exec
  have hb := B.bytes
  have hr := B.returns
  have hts := atoms_spec (ws := ws_ yX11_lays cX11_lays 1 (none)) B.pre
  have hts : ∀ w ∈ lw_all, w.before _ s = true := fun w h => hts w (List.mem_cons_of_mem _ h)
  have hown : s.vm.findClass RX11 = some m.cls := findClass_of_methodNamed B.named
  have hlocks := B.notSynchronized
  have hM : s.heap.size + M = res.2.1 := by rw [hH.1]; exact hM
  have hcs : s.heap.size + 0 = τ.1 := hH.1
  have hss : τ.2.1 + 0 = τ.2.1 := rfl
  generalize hsl0 : τ.2.1 = sl0 at hS0 hss
  have hss : sl0 + 0 = τ.2.1 := by rw [hsl0]; rfl
  have hS : va_S (zA ζ) s.heap s.heap [] := va_S.rf
  generalize hHe : s.heap = H at hH hS ⊢
  have hS : va_S (zA ζ) s.heap H [] := by rw [hHe]; exact hS
  generalize ([] : List Loc) = locs at hS ⊢
  have hl := lv_entry ([.ref h]) (n := 1) (Nat.le_of_ble_eq_true rfl)
  rw [lg_entry_eq]
  generalize (lg_sl ([.ref h]) ++ List.replicate (1 - (lg_sl ([.ref h])).length) Slot.unset).toArray = ls at hl ⊢
  have hl : lv_has ls 1 [(0, .ref h)] := hl
  have hf : (dz_b (zob ζ τ h 8) fun f1 => dz_b (zvr (f1[5]?)) fun x2 => dz_b (zob ζ τ h 8) fun f3 => dz_b (zvl (f3[0]?)) fun x4 => dz_b (zob ζ τ h 8) fun f7 => zcl τ (fnX6_laysAll_8 K ζ h x2 (x4 + 1) τ) fun _ s6 => some ((), s6) : Option (Unit × pH)) = some res := hf
  refine z_gen (fun cells slots hc0 hs0 => ?_)
  have hcs : s.heap.size + cells = τ.1 := by rw [hc0]; exact hcs
  have hss : sl0 + slots = τ.2.1 := by rw [hs0]; exact hss
  have hcM : cells ≤ M ∧ slots ≤ S := by rw [hc0, hs0]; exact ⟨Nat.zero_le _, Nat.zero_le _⟩
  clear hc0 hs0
  refine lv_aload_n hx hb dX11_lays_0 rfl (lv_at hl 0 rfl) ?_
  refine lv_aload_n hx hb dX11_lays_1 rfl (lv_at hl 0 rfl) ?_
  obtain ⟨f1, hf1, hf⟩ := dz_bo hf
  obtain ⟨x2, hx2, hf⟩ := dz_bo hf
  refine va_get (C := RX11) (T := TX11) (N := 8) hx hb hts in_X11 hown hX.K (zrd_P hX hS hH (zob_o hf1)) 0 rfl rfl 5 (by decide) (hts _ q560) (fun x hq => u_same (hts _ q561) x hq) (zvr_o hx2) dX11_lays_2 ?_
  refine lv_aload_n hx hb dX11_lays_5 rfl (lv_at hl 0 rfl) ?_
  obtain ⟨f3, hf3, hf⟩ := dz_bo hf
  obtain ⟨x4, hx4, hf⟩ := dz_bo hf
  refine va_get (C := RX11) (T := TX11) (N := 8) hx hb hts in_X11 hown hX.K (zrd_P hX hS hH (zob_o hf3)) 0 rfl rfl 0 (by decide) (hts _ q537) (fun x hq => u_same (hts _ q538) x hq) (zvl_o hx4) dX11_lays_6 ?_
  refine lv_lconst (v := 1) hx hb dX11_lays_9 rfl ?_
  refine lv_ladd hx hb dX11_lays_10 ?_
  obtain ⟨f7, hf7, hf⟩ := dz_bo hf
  obtain ⟨x5, s6, hx5, hle, hck, hf⟩ := zcl_o hf
  have hc1 : cells + (s6.1 - τ.1) ≤ M := by omega
  have hs1 : slots + (s6.2.1 - τ.2.1) ≤ S := by omega
  refine va_callv (va_runU (x := ⟨"PrimeProofs$Lucas", "laysAll", "(LPrimeProofs$Rows;J)V"⟩) (owner := "PrimeProofs$Line") (As := [.ref x2, .long (x4 + 1)]) (rest := []) ⟨hx, hb, hml, hown, hts⟩ (mtX6_laysAll_8 l D cA ζ τ h x2 (x4 + 1) K (x5, s6) hx5 (s6.1 - τ.1) (s6.2.1 - τ.2.1) (Nat.add_sub_cancel' hle.1) (Nat.add_sub_cancel' hle.2)) (va_cwA 2 hts (zU_in q710 q711 q713 q714 q96 q715) rfl rfl rfl (hX.N q712 rfl) (by decide +kernel) ⟨Nat.le_of_ble_eq_true rfl, Nat.le_of_ble_eq_true rfl⟩) (z_preV hX hS hH (zob_o hf7) rfl) rfl rfl hl.1 rfl (lv_room (Nat.le_of_ble_eq_true rfl)) dX11_lays_11 ⟨hc1, hs1⟩) hS (fun q _ hq => hq) (fun q hq => hq) (fun u t H1 locs ht hvm hw hB hz hk hS => ?_)
  obtain ⟨-, hw2⟩ := Prod.mk.inj hw.symm; subst hw2
  have hH : zH D cA ζ s6 H1 := z_at ht.symm hB
  have hcs : s.heap.size + (cells + (s6.1 - τ.1)) = s6.1 := by omega
  have hss : sl0 + (slots + (s6.2.1 - τ.2.1)) = s6.2.1 := by omega
  replace hcM := And.intro hc1 hs1
  generalize cells + (s6.1 - τ.1) = cells at hcs hcM ⊢; generalize slots + (s6.2.1 - τ.2.1) = slots at hss hcM ⊢
  clear hB hk hz hvm ht hle hck hc1 hs1; generalize H1 = H at hH hS ⊢
  obtain ⟨hM1, hS1⟩ : cells = M ∧ slots = S := by have hq := congrArg Prod.snd (Option.some.inj hf); rw [← hq] at hM hS0; have hM : s.heap.size + M = s6.1 := hM; have hS0 : sl0 + S = s6.2.1 := hS0; omega
  refine W.widen (k := M) (n := S) (Nat.le_of_eq hM1) (Nat.le_of_eq hS1) ?_
  exact W.vret hx hb hr (fun t ht hW => ⟨⟨s6, rfl, Option.some.inj hf, z_at ht hH⟩, hS.F ht⟩) hS.2.2 dX11_lays_14

