noncomputable def lfX0_primes (K : Nat) (ζ : pZ) : Nat → (Int32 → Int32 → Int32 → pH → Option (Int32 × pH)) := Nat.rec (motive := fun _ => (Int32 → Int32 → Int32 → pH → Option (Int32 × pH))) (fun _ _ _ _ => none) (fun _ G => (fun v2 v3 v4 τ => if v2 < v4 then (some (v3, τ)) else (dz_b (fnX0_isPrime K (Int32.toInt64 v4)) fun x1 => if x1 = (0 : Int32) then (dz_l (v3 + 0) fun x2 => dz_l (v4 + 1) fun x3 => G v2 x2 x3 τ) else (dz_l (v3 + 1) fun x4 => dz_l (v4 + 1) fun x5 => G v2 x4 x5 τ))))
noncomputable def fnX0_primes (K : Nat) (ζ : pZ) (h : Nat) (a0 : Int32) (a1 : Int32) (τ : pH) : Option (Int32 × pH) := if a0 < (0 : Int32) then (some ((-1), τ)) else (dz_b (fnX0_isIn K (Int32.toInt64 a1) (Int32.toInt64 a0) 1000000000) fun x1 => if x1 = (0 : Int32) then (some ((-1), τ)) else (if (a1 - a0) < (1000 : Int32) then ((lfX0_primes K ζ K) a1 0 a0 τ) else (some ((-1), τ))))
set_option maxHeartbeats 4000000 in
set_option maxRecDepth 100000 in
theorem wlX0_primes {p : Program} {l : Launch} {e : Env} {s : State} {m : MethodId} {below : List Frame} {meth : Method} {c : Code} {D : va_G} {cA : Nat → ClassId} {ζ : pZ} (hX : zX D cA ζ s) (K : Nat) (res : (Int32 × pH)) (M S sl0 : Nat) (hM : s.heap.size + M = res.2.1) (hS0 : sl0 + S = res.2.2.1) (h : Nat) (a0 : Int32) (a1 : Int32) (hx : p.tables.exec = Jvm.exec) (hb : c.code = cX0_primes) (hr : meth.sig.returnType = some .int) (hlocks : meth.locks = false) (hml : c.maxLocals = 5) (hown : s.vm.findClass RX0 = some m.cls) (hts : ∀ w ∈ lw_all, w.before ([.ref h, .int a0, .int a1] : List Value).toArray s = true) : ∀ k : Nat, (∀ (v2 : Int32) (v3 : Int32) (v4 : Int32) (τ : pH) (H : Heap) (locs : List Loc) (cells slots : Nat), zH D cA ζ τ H → va_S (zA ζ) s.heap H locs → s.heap.size + cells = τ.1 → sl0 + slots = τ.2.1 → cells ≤ M ∧ slots ≤ S → ∀ (ls : Array Slot), lv_has ls 5 [(2, .int v2), (3, .int v3), (4, .int v4)] → (lfX0_primes K ζ k) v2 v3 v4 τ = some res → W p l e (headSpec (ws_ yX0_primes cX0_primes 5 (some .int)) ({ frames := 1, cells := M, slots := S, locals := 25 })).room s m ([.ref h, .int a0, .int a1] : List Value).toArray below meth c H locs cells slots (MQ below (zQi D cA ζ res) ([.ref h, .int a0, .int a1] : List Value).toArray s M S (zA ζ)) (F0 m 33 ls [])) := by
  intro k
  induction k with
  | zero =>
    exact fun _ _ _ _ _ _ _ _ _ _ _ _ _ _ _ hf => (by cases hf)
  | succ k ih =>
    · intro v2 v3 v4 τ H locs cells slots hH hS hcs hss hcM ls hl hf
      have hf : (if v2 < v4 then (some (v3, τ)) else (dz_b (fnX0_isPrime K (Int32.toInt64 v4)) fun x1 => if x1 = (0 : Int32) then (dz_l (v3 + 0) fun x2 => dz_l (v4 + 1) fun x3 => (lfX0_primes K ζ k) v2 x2 x3 τ) else (dz_l (v3 + 1) fun x4 => dz_l (v4 + 1) fun x5 => (lfX0_primes K ζ k) v2 x4 x5 τ)) : Option (Int32 × pH)) = some res := hf
      refine lv_iload hx hb dX0_primes_33 (lv_at hl 2 rfl) ?_
      refine lv_iload_n hx hb dX0_primes_35 rfl (lv_at hl 0 rfl) ?_
      refine lv_icmp_gt (tgt := 62) hx hb dX0_primes_36 (by decide) (fun c36 => ?_) (fun c36 => ?_)
      · have hf := dz_t c36 hf
        refine lv_iload_n hx hb dX0_primes_62 rfl (lv_at hl 1 rfl) ?_
        obtain ⟨hM1, hS1⟩ : cells = M ∧ slots = S := by have hq := congrArg Prod.snd (Option.some.inj hf); rw [← hq] at hM hS0; have hM : s.heap.size + M = τ.1 := hM; have hS0 : sl0 + S = τ.2.1 := hS0; omega
        refine W.widen (k := M) (n := S) (Nat.le_of_eq hM1) (Nat.le_of_eq hS1) ?_
        exact W.iret (v := v3) hx hb hr (fun t ht hW => ⟨⟨v3, τ, rfl, Option.some.inj hf, z_at ht hH⟩, hS.F ht⟩) hS.2.2 dX0_primes_63
      · have hf := dz_f c36 hf
        refine lv_iload_n hx hb dX0_primes_39 rfl (lv_at hl 1 rfl) ?_
        refine lv_iload hx hb dX0_primes_40 (lv_at hl 2 rfl) ?_
        refine lv_i2l hx hb dX0_primes_42 (rfl : _ = Int32.toInt64 v4) ?_
        obtain ⟨x1, hx1, hf⟩ := dz_bo hf
        refine va_calli (va_runS (As := [.long (Int32.toInt64 v4)]) (rest := [.int v3]) ⟨hx, hb, hml, hown, hts⟩ (mtX0_isPrime l (Int32.toInt64 v4) K x1 hx1) (va_cwS 1 hts (lw_S q655 q234 q84 q235) rfl rfl rfl (by decide +kernel) ⟨Nat.le_of_ble_eq_true rfl, Nat.le_of_ble_eq_true rfl⟩) ⟨fun a U g mk q => q, fun U hU hW => ⟨rfl, trivial⟩⟩ rfl rfl hl.1 rfl (lv_room (Nat.le_of_ble_eq_true rfl)) dX0_primes_43 ⟨hcM.1, hcM.2⟩) hS (fun q _ hq => hq.elim) (fun q hq => hq.elim) (fun r u t H1 locs ht hvm hw hB hz hk hS => dz_size (fun hz9 => ?_))
        replace hw := hw.symm; subst hw
        replace hH := zH_keep hH hcs hz hk hz9
        clear hB hk hz hvm ht hz9; generalize H1 = H at hH hS ⊢
        refine W.widen (k := cells) (n := slots) (Nat.le_refl _) (Nat.le_refl _) ?_
        refine lv_if_eq (tgt := 53) hx hb dX0_primes_46 (by decide) (fun c46 => ?_) (fun c46 => ?_)
        · have hf := dz_t c46 hf
          refine lv_iconst (v := 0) hx hb dX0_primes_53 (by decide) ?_
          refine lv_iadd hx hb dX0_primes_54 ?_
          refine lv_topi (fun x2 e_x2 => ?_)
          have hf := dz_ls e_x2 hf
          refine lv_istore_n (lv' := [(3, .int x2), (2, .int v2), (4, .int v4)]) hx hb dX0_primes_55 rfl hl (by decide) rfl (fun ls hl => ?_)
          obtain ⟨x3, e_x3, hf⟩ := dz_lo hf
          refine lv_iinc (v := x3) (lv' := [(4, .int x3), (3, .int x2), (2, .int v2)]) hx hb dX0_primes_56 hl (k := 2) rfl (by rw [e_x3]; rfl) (by decide) rfl (fun ls hl => ?_)
          refine lv_goto (tgt := 33) hx hb dX0_primes_59 (by decide) ?_
          exact ih v2 x2 x3 τ H locs cells slots hH hS hcs hss hcM ls (lv_sub hl [2, 1, 0] rfl) hf
        · have hf := dz_f c46 hf
          refine lv_iconst (v := 1) hx hb dX0_primes_49 (by decide) ?_
          refine lv_goto (tgt := 54) hx hb dX0_primes_50 (by decide) ?_
          refine lv_iadd hx hb dX0_primes_54 ?_
          refine lv_topi (fun x4 e_x4 => ?_)
          have hf := dz_ls e_x4 hf
          refine lv_istore_n (lv' := [(3, .int x4), (2, .int v2), (4, .int v4)]) hx hb dX0_primes_55 rfl hl (by decide) rfl (fun ls hl => ?_)
          obtain ⟨x5, e_x5, hf⟩ := dz_lo hf
          refine lv_iinc (v := x5) (lv' := [(4, .int x5), (3, .int x4), (2, .int v2)]) hx hb dX0_primes_56 hl (k := 2) rfl (by rw [e_x5]; rfl) (by decide) rfl (fun ls hl => ?_)
          refine lv_goto (tgt := 33) hx hb dX0_primes_59 (by decide) ?_
          exact ih v2 x4 x5 τ H locs cells slots hH hS hcs hss hcM ls (lv_sub hl [2, 1, 0] rfl) hf
set_option maxHeartbeats 4000000 in
set_option maxRecDepth 100000 in
theorem mtX0_primes (l : Launch) (D : va_G) (cA : Nat → ClassId) (ζ : pZ) (τ : pH) (h : Nat) (a0 : Int32) (a1 : Int32) (K : Nat) (res : (Int32 × pH)) (hf : fnX0_primes K ζ h a0 a1 τ = some res) (M S : Nat) (hM : τ.1 + M = res.2.1) (hS0 : τ.2.1 + S = res.2.2.1) : Met l yX0_primes (ws_ yX0_primes cX0_primes 5 (some .int)) ({ frames := 1, cells := M, slots := S, locals := 25 }) (zPc D cA ζ τ [.ref h, .int a0, .int a1]) (zQi D cA ζ res) M S (zA ζ) := by
  refine Met.ofW (cc := cX0_primes) (maxL := 5) (ret := some .int) (by decide +kernel) rfl ?_
  intro p e s m args below meth c s₁ B hml hv
  obtain ⟨rfl, hX, hH⟩ := hv
  have hx := B.exec
  have hb := B.bytes
  have hr := B.returns
  have hts := atoms_spec (ws := ws_ yX0_primes cX0_primes 5 (some .int)) B.pre
  have hts : ∀ w ∈ lw_all, w.before _ s = true := fun w h => hts w (List.mem_cons_of_mem _ h)
  have hown : s.vm.findClass RX0 = some m.cls := findClass_of_methodNamed B.named
  have hlocks := B.notSynchronized
  have hM : s.heap.size + M = res.2.1 := by rw [hH.1]; exact hM
  have hcs : s.heap.size + 0 = τ.1 := hH.1
  have hss : τ.2.1 + 0 = τ.2.1 := rfl
  generalize hsl0 : τ.2.1 = sl0 at hS0 hss
  have hss : sl0 + 0 = τ.2.1 := by rw [hsl0]; rfl
  have hS : va_S (zA ζ) s.heap s.heap [] := va_S.rf
  generalize hHe : s.heap = H at hH hS ⊢
  have hS : va_S (zA ζ) s.heap H [] := by rw [hHe]; exact hS
  generalize ([] : List Loc) = locs at hS ⊢
  have hl := lv_entry ([.ref h, .int a0, .int a1]) (n := 5) (Nat.le_of_ble_eq_true rfl)
  rw [lg_entry_eq]
  generalize (lg_sl ([.ref h, .int a0, .int a1]) ++ List.replicate (5 - (lg_sl ([.ref h, .int a0, .int a1])).length) Slot.unset).toArray = ls at hl ⊢
  have hl : lv_has ls 5 [(0, .ref h), (1, .int a0), (2, .int a1)] := hl
  have hf : (if a0 < (0 : Int32) then (some ((-1), τ)) else (dz_b (fnX0_isIn K (Int32.toInt64 a1) (Int32.toInt64 a0) 1000000000) fun x1 => if x1 = (0 : Int32) then (some ((-1), τ)) else (if (a1 - a0) < (1000 : Int32) then ((lfX0_primes K ζ K) a1 0 a0 τ) else (some ((-1), τ)))) : Option (Int32 × pH)) = some res := hf
  refine z_gen (fun cells slots hc0 hs0 => ?_)
  have hcs : s.heap.size + cells = τ.1 := by rw [hc0]; exact hcs
  have hss : sl0 + slots = τ.2.1 := by rw [hs0]; exact hss
  have hcM : cells ≤ M ∧ slots ≤ S := by rw [hc0, hs0]; exact ⟨Nat.zero_le _, Nat.zero_le _⟩
  clear hc0 hs0
  have ih := wlX0_primes (l := l) (e := e) (below := below) (D := D) (cA := cA) hX K res M S sl0 hM hS0 h a0 a1 hx hb hr hlocks hml hown hts K
  refine lv_iload_n hx hb dX0_primes_0 rfl (lv_at hl 1 rfl) ?_
  refine lv_if_lt (tgt := 26) hx hb dX0_primes_1 (by decide) (fun c1 => ?_) (fun c1 => ?_)
  · have hf := dz_t c1 hf
    refine lv_iconst (v := (-1)) hx hb dX0_primes_26 (by decide) ?_
    obtain ⟨hM1, hS1⟩ : cells = M ∧ slots = S := by have hq := congrArg Prod.snd (Option.some.inj hf); rw [← hq] at hM hS0; have hM : s.heap.size + M = τ.1 := hM; have hS0 : sl0 + S = τ.2.1 := hS0; omega
    refine W.widen (k := M) (n := S) (Nat.le_of_eq hM1) (Nat.le_of_eq hS1) ?_
    exact W.iret (v := (-1)) hx hb hr (fun t ht hW => ⟨⟨(-1), τ, rfl, Option.some.inj hf, z_at ht hH⟩, hS.F ht⟩) hS.2.2 dX0_primes_27
  · have hf := dz_f c1 hf
    refine lv_iload_n hx hb dX0_primes_4 rfl (lv_at hl 2 rfl) ?_
    refine lv_i2l hx hb dX0_primes_5 (rfl : _ = Int32.toInt64 a1) ?_
    refine lv_iload_n hx hb dX0_primes_6 rfl (lv_at hl 1 rfl) ?_
    refine lv_i2l hx hb dX0_primes_7 (rfl : _ = Int32.toInt64 a0) ?_
    refine lv_ldc2 (v := 1000000000) hx hb hown (hts _ q195) dX0_primes_8 ?_
    obtain ⟨x1, hx1, hf⟩ := dz_bo hf
    refine va_calli (va_runS (As := [.long (Int32.toInt64 a1), .long (Int32.toInt64 a0), .long 1000000000]) (rest := []) ⟨hx, hb, hml, hown, hts⟩ (mtX0_isIn l (Int32.toInt64 a1) (Int32.toInt64 a0) 1000000000 K x1 hx1) (va_cwS 3 hts (lw_S q188 q189 q84 q190) rfl rfl rfl (by decide +kernel) ⟨Nat.le_of_ble_eq_true rfl, Nat.le_of_ble_eq_true rfl⟩) ⟨fun a U g mk q => q, fun U hU hW => ⟨rfl, trivial⟩⟩ rfl rfl hl.1 rfl (lv_room (Nat.le_of_ble_eq_true rfl)) dX0_primes_11 ⟨hcM.1, hcM.2⟩) hS (fun q _ hq => hq.elim) (fun q hq => hq.elim) (fun r u t H1 locs ht hvm hw hB hz hk hS => dz_size (fun hz9 => ?_))
    replace hw := hw.symm; subst hw
    replace hH := zH_keep hH hcs hz hk hz9
    clear hB hk hz hvm ht hz9; generalize H1 = H at hH hS ⊢
    refine W.widen (k := cells) (n := slots) (Nat.le_refl _) (Nat.le_refl _) ?_
    refine lv_if_eq (tgt := 26) hx hb dX0_primes_14 (by decide) (fun c14 => ?_) (fun c14 => ?_)
    · have hf := dz_t c14 hf
      refine lv_iconst (v := (-1)) hx hb dX0_primes_26 (by decide) ?_
      obtain ⟨hM1, hS1⟩ : cells = M ∧ slots = S := by have hq := congrArg Prod.snd (Option.some.inj hf); rw [← hq] at hM hS0; have hM : s.heap.size + M = τ.1 := hM; have hS0 : sl0 + S = τ.2.1 := hS0; omega
      refine W.widen (k := M) (n := S) (Nat.le_of_eq hM1) (Nat.le_of_eq hS1) ?_
      exact W.iret (v := (-1)) hx hb hr (fun t ht hW => ⟨⟨(-1), τ, rfl, Option.some.inj hf, z_at ht hH⟩, hS.F ht⟩) hS.2.2 dX0_primes_27
    · have hf := dz_f c14 hf
      refine lv_iload_n hx hb dX0_primes_17 rfl (lv_at hl 2 rfl) ?_
      refine lv_iload_n hx hb dX0_primes_18 rfl (lv_at hl 1 rfl) ?_
      refine lv_isub hx hb dX0_primes_19 ?_
      refine lv_sipush (v := 1000) hx hb dX0_primes_20 (by decide) ?_
      refine lv_icmp_lt (tgt := 28) hx hb dX0_primes_23 (by decide) (fun c23 => ?_) (fun c23 => ?_)
      · have hf := dz_t c23 hf
        refine lv_iconst (v := 0) hx hb dX0_primes_28 (by decide) ?_
        refine lv_istore_n (lv' := [(3, .int 0), (0, .ref h), (1, .int a0), (2, .int a1)]) hx hb dX0_primes_29 rfl hl (by decide) rfl (fun ls hl => ?_)
        refine lv_iload_n hx hb dX0_primes_30 rfl (lv_at hl 2 rfl) ?_
        refine lv_istore (lv' := [(4, .int a0), (3, .int 0), (0, .ref h), (1, .int a0), (2, .int a1)]) hx hb dX0_primes_31 hl (by decide) rfl (fun ls hl => ?_)
        exact ih a1 0 a0 τ H locs cells slots hH hS hcs hss hcM ls (lv_sub hl [4, 1, 0] rfl) hf
      · have hf := dz_f c23 hf
        refine lv_iconst (v := (-1)) hx hb dX0_primes_26 (by decide) ?_
        obtain ⟨hM1, hS1⟩ : cells = M ∧ slots = S := by have hq := congrArg Prod.snd (Option.some.inj hf); rw [← hq] at hM hS0; have hM : s.heap.size + M = τ.1 := hM; have hS0 : sl0 + S = τ.2.1 := hS0; omega
        refine W.widen (k := M) (n := S) (Nat.le_of_eq hM1) (Nat.le_of_eq hS1) ?_
        exact W.iret (v := (-1)) hx hb hr (fun t ht hW => ⟨⟨(-1), τ, rfl, Option.some.inj hf, z_at ht hH⟩, hS.F ht⟩) hS.2.2 dX0_primes_27

noncomputable def fnX0_isOdd (K : Nat) (a0 : Int32) : Option Int32 := dz_b (fnX0_isNumber K (Int32.toInt64 a0)) fun x1 => if x1 = (0 : Int32) then (some 0) else (dz_l (a0 - a0 / 2 * 2) fun x2 => if x2 = (1 : Int32) then (some 1) else (some 0))
set_option maxHeartbeats 4000000 in
set_option maxRecDepth 100000 in
theorem mtX0_isOdd (l : Launch) (a0 : Int32) (K : Nat) (res : Int32) (hf : fnX0_isOdd K a0 = some res) : Met l yX0_isOdd (ws_ yX0_isOdd cX0_isOdd 1 (some .boolean)) ({ frames := 2, cells := 0, slots := 0, locals := 46 }) (dz_P [.int a0]) (dz_Qi res) 0 0 (fun _ => False) := by
  refine Met.ofW (cc := cX0_isOdd) (maxL := 1) (ret := some .boolean) (by decide +kernel) rfl ?_
  intro p e s m args below meth c s₁ B hml hv
  obtain ⟨rfl, -⟩ := hv
  have hx := B.exec
  have hb := B.bytes
  have hr := B.returns
  have hts := atoms_spec (ws := ws_ yX0_isOdd cX0_isOdd 1 (some .boolean)) B.pre
  have hts : ∀ w ∈ lw_all, w.before _ s = true := fun w h => hts w (List.mem_cons_of_mem _ h)
  have hown : s.vm.findClass RX0 = some m.cls := findClass_of_methodNamed B.named
  have hlocks := B.notSynchronized
  have hS : va_S (fun _ => False) s.heap s.heap [] := va_S.rf
  generalize hHe : s.heap = H at hS ⊢
  have hS : va_S (fun _ => False) s.heap H [] := by rw [hHe]; exact hS
  generalize ([] : List Loc) = locs at hS ⊢
  have hl := lv_entry ([.int a0]) (n := 1) (Nat.le_of_ble_eq_true rfl)
  rw [lg_entry_eq]
  generalize (lg_sl ([.int a0]) ++ List.replicate (1 - (lg_sl ([.int a0])).length) Slot.unset).toArray = ls at hl ⊢
  have hl : lv_has ls 1 [(0, .int a0)] := hl
  have hf : (dz_b (fnX0_isNumber K (Int32.toInt64 a0)) fun x1 => if x1 = (0 : Int32) then (some 0) else (dz_l (a0 - a0 / 2 * 2) fun x2 => if x2 = (1 : Int32) then (some 1) else (some 0)) : Option Int32) = some res := hf
  refine lv_iload_n hx hb dX0_isOdd_0 rfl (lv_at hl 0 rfl) ?_
  refine lv_i2l hx hb dX0_isOdd_1 (rfl : _ = Int32.toInt64 a0) ?_
  obtain ⟨x1, hx1, hf⟩ := dz_bo hf
  refine va_calli (va_runS (As := [.long (Int32.toInt64 a0)]) (rest := []) ⟨hx, hb, hml, hown, hts⟩ (mtX0_isNumber l (Int32.toInt64 a0) K x1 hx1) (va_cwS 1 hts (lw_S q191 q192 q84 q193) rfl rfl rfl (by decide +kernel) ⟨Nat.le_of_ble_eq_true rfl, Nat.le_of_ble_eq_true rfl⟩) ⟨fun a U g mk q => q, fun U hU hW => ⟨rfl, trivial⟩⟩ rfl rfl hl.1 rfl (lv_room (Nat.le_of_ble_eq_true rfl)) dX0_isOdd_2 ⟨Nat.le_refl _, Nat.le_refl _⟩) hS (fun q _ hq => hq.elim) (fun q hq => hq.elim) (fun r u t H1 locs ht hvm hw hB hz hk hS => ?_)
  replace hw := hw.symm; subst hw
  clear hB hk hz hvm ht; generalize H1 = H at hS ⊢
  refine lv_if_eq (tgt := 19) hx hb dX0_isOdd_5 (by decide) (fun c5 => ?_) (fun c5 => ?_)
  · have hf := dz_t c5 hf
    refine lv_iconst (v := 0) hx hb dX0_isOdd_19 (by decide) ?_
    exact W.zret (v := 0) hx hb hr rfl (fun t ht hW => ⟨⟨0, (), rfl, Option.some.inj hf, trivial⟩, hS.F ht⟩) hS.2.2 dX0_isOdd_20
  · have hf := dz_f c5 hf
    refine lv_iload_n hx hb dX0_isOdd_8 rfl (lv_at hl 0 rfl) ?_
    refine lv_iconst (v := 2) hx hb dX0_isOdd_9 (by decide) ?_
    refine lv_irem hx hb dX0_isOdd_10 (by decide) ?_
    refine lv_topi (fun x2 e_x2 => ?_)
    have hf := dz_ls e_x2 hf
    refine lv_iconst (v := 1) hx hb dX0_isOdd_11 (by decide) ?_
    refine lv_icmp_ne (tgt := 19) hx hb dX0_isOdd_12 (by decide) (fun c12 => ?_) (fun c12 => ?_)
    · have hf := dz_f c12 hf
      refine lv_iconst (v := 0) hx hb dX0_isOdd_19 (by decide) ?_
      exact W.zret (v := 0) hx hb hr rfl (fun t ht hW => ⟨⟨0, (), rfl, Option.some.inj hf, trivial⟩, hS.F ht⟩) hS.2.2 dX0_isOdd_20
    · have hf := dz_t c12 hf
      refine lv_iconst (v := 1) hx hb dX0_isOdd_15 (by decide) ?_
      refine lv_goto (tgt := 20) hx hb dX0_isOdd_16 (by decide) ?_
      exact W.zret (v := 1) hx hb hr rfl (fun t ht hW => ⟨⟨1, (), rfl, Option.some.inj hf, trivial⟩, hS.F ht⟩) hS.2.2 dX0_isOdd_20

noncomputable def lfX0_isPassed (K : Nat) (ζ : pZ) : Nat → (Int64 → Int64 → Int64 → pH → Option (Int32 × pH)) × (Int64 → Int64 → Int64 → pH → Option (Int32 × pH)) := Nat.rec (motive := fun _ => (Int64 → Int64 → Int64 → pH → Option (Int32 × pH)) × (Int64 → Int64 → Int64 → pH → Option (Int32 × pH))) ((fun _ _ _ _ => none), (fun _ _ _ _ => none)) (fun _ G => ((fun v0 v2 v4 τ => dz_l (v4 - v4 / 2 * 2) fun x1 => if x1 = (0 : Int64) then (dz_l (v4 / 2) fun x4 => G.1 v0 v2 x4 τ) else (zcl τ (fnX0_powerOf K ζ v2 v4 v0 τ) fun x2 s3 => if x2 = (1 : Int64) then (some (1, s3)) else (G.2 v0 v4 x2 s3))), (fun v0 v4 v6 τ => if (v0 - 1) ≤ v4 then (some (0, τ)) else (if v6 = (v0 - 1) then (some (1, τ)) else (if ¬ v0 = 0 then (dz_l ((v6 * v6) - (v6 * v6) / v0 * v0) fun x2 => dz_l (v4 * 2) fun x3 => G.2 v0 x3 x2 τ) else none)))))
noncomputable def fnX0_isPassed (K : Nat) (ζ : pZ) (a0 : Int64) (a1 : Int64) (τ : pH) : Option (Int32 × pH) := dz_l (a0 - 1) fun x1 => (lfX0_isPassed K ζ K).1 a0 a1 x1 τ
set_option maxHeartbeats 4000000 in
set_option maxRecDepth 100000 in
theorem wlX0_isPassed {p : Program} {l : Launch} {e : Env} {s : State} {m : MethodId} {below : List Frame} {meth : Method} {c : Code} {D : va_G} {cA : Nat → ClassId} {ζ : pZ} (hX : zX D cA ζ s) (K : Nat) (res : (Int32 × pH)) (M S sl0 : Nat) (hM : s.heap.size + M = res.2.1) (hS0 : sl0 + S = res.2.2.1) (a0 : Int64) (a1 : Int64) (hx : p.tables.exec = Jvm.exec) (hb : c.code = cX0_isPassed) (hr : meth.sig.returnType = some .boolean) (hlocks : meth.locks = false) (hml : c.maxLocals = 8) (hown : s.vm.findClass RX0 = some m.cls) (hts : ∀ w ∈ lw_all, w.before ([.long a0, .long a1] : List Value).toArray s = true) : ∀ k : Nat, (∀ (v0 : Int64) (v2 : Int64) (v4 : Int64) (τ : pH) (H : Heap) (locs : List Loc) (cells slots : Nat), zH D cA ζ τ H → va_S (zA ζ) s.heap H locs → s.heap.size + cells = τ.1 → sl0 + slots = τ.2.1 → cells ≤ M ∧ slots ≤ S → ∀ (ls : Array Slot), lv_has ls 8 [(0, .long v0), (2, .long v2), (4, .long v4)] → (lfX0_isPassed K ζ k).1 v0 v2 v4 τ = some res → W p l e (headSpec (ws_ yX0_isPassed cX0_isPassed 8 (some .boolean)) ({ frames := 4, cells := M, slots := S, locals := 89 })).room s m ([.long a0, .long a1] : List Value).toArray below meth c H locs cells slots (MQ below (zQi D cA ζ res) ([.long a0, .long a1] : List Value).toArray s M S (zA ζ)) (F0 m 5 ls [])) ∧ (∀ (v0 : Int64) (v4 : Int64) (v6 : Int64) (τ : pH) (H : Heap) (locs : List Loc) (cells slots : Nat), zH D cA ζ τ H → va_S (zA ζ) s.heap H locs → s.heap.size + cells = τ.1 → sl0 + slots = τ.2.1 → cells ≤ M ∧ slots ≤ S → ∀ (ls : Array Slot), lv_has ls 8 [(0, .long v0), (4, .long v4), (6, .long v6)] → (lfX0_isPassed K ζ k).2 v0 v4 v6 τ = some res → W p l e (headSpec (ws_ yX0_isPassed cX0_isPassed 8 (some .boolean)) ({ frames := 4, cells := M, slots := S, locals := 89 })).room s m ([.long a0, .long a1] : List Value).toArray below meth c H locs cells slots (MQ below (zQi D cA ζ res) ([.long a0, .long a1] : List Value).toArray s M S (zA ζ)) (F0 m 45 ls [])) := by
  intro k
  induction k with
  | zero =>
    exact ⟨fun _ _ _ _ _ _ _ _ _ _ _ _ _ _ _ hf => (by cases hf), fun _ _ _ _ _ _ _ _ _ _ _ _ _ _ _ hf => (by cases hf)⟩
  | succ k ih =>
    refine ⟨?_, ?_⟩
    · intro v0 v2 v4 τ H locs cells slots hH hS hcs hss hcM ls hl hf
      have hf : (dz_l (v4 - v4 / 2 * 2) fun x1 => if x1 = (0 : Int64) then (dz_l (v4 / 2) fun x4 => (lfX0_isPassed K ζ k).1 v0 v2 x4 τ) else (zcl τ (fnX0_powerOf K ζ v2 v4 v0 τ) fun x2 s3 => if x2 = (1 : Int64) then (some (1, s3)) else ((lfX0_isPassed K ζ k).2 v0 v4 x2 s3)) : Option (Int32 × pH)) = some res := hf
      refine lv_lload hx hb dX0_isPassed_5 (lv_at hl 2 rfl) ?_
      refine lv_ldc2 (v := 2) hx hb hown (hts _ q194) dX0_isPassed_7 ?_
      refine lv_lrem hx hb dX0_isPassed_10 (by decide) ?_
      refine lv_topl (fun x1 e_x1 => ?_)
      have hf := dz_ls e_x1 hf
      refine lv_lconst (v := 0) hx hb dX0_isPassed_11 rfl ?_
      refine W.lcmp hx hb dX0_isPassed_12 ?_
      refine lv_if_ne (tgt := 27) hx hb dX0_isPassed_13 (by decide) (fun c13 => ?_) (fun c13 => ?_)
      · have c13 : ¬ x1 = (0 : Int64) := fun hq => c13 ((lg_cmp_eq _ _).mpr hq)
        have hf := dz_f c13 hf
        refine lv_lload_n hx hb dX0_isPassed_27 rfl (lv_at hl 1 rfl) ?_
        refine lv_lload hx hb dX0_isPassed_28 (lv_at hl 2 rfl) ?_
        refine lv_lload_n hx hb dX0_isPassed_30 rfl (lv_at hl 0 rfl) ?_
        obtain ⟨x2, s3, hx2, hle, hck, hf⟩ := zcl_o hf
        have hc1 : cells + (s3.1 - τ.1) ≤ M := by omega
        have hs1 : slots + (s3.2.1 - τ.2.1) ≤ S := by omega
        refine va_calll (va_runS (As := [.long v2, .long v4, .long v0]) (rest := []) ⟨hx, hb, hml, hown, hts⟩ (mtX0_powerOf l D cA ζ τ v2 v4 v0 K (x2, s3) hx2 (s3.1 - τ.1) (s3.2.1 - τ.2.1) (Nat.add_sub_cancel' hle.1) (Nat.add_sub_cancel' hle.2)) (va_cwS 3 hts (lw_S q1627 q368 q84 q369) rfl rfl rfl (by decide +kernel) ⟨Nat.le_of_ble_eq_true rfl, Nat.le_of_ble_eq_true rfl⟩) (z_preS hX hS hH) rfl rfl hl.1 rfl (lv_room (Nat.le_of_ble_eq_true rfl)) dX0_isPassed_31 ⟨hc1, hs1⟩) hS (fun q _ hq => hq) (fun q hq => hq) (fun r u t H1 locs ht hvm hw hB hz hk hS => ?_)
        obtain ⟨hw1, hw2⟩ := Prod.mk.inj hw.symm; subst hw1; subst hw2
        have hH : zH D cA ζ s3 H1 := z_at ht.symm hB
        have hcs : s.heap.size + (cells + (s3.1 - τ.1)) = s3.1 := by omega
        have hss : sl0 + (slots + (s3.2.1 - τ.2.1)) = s3.2.1 := by omega
        replace hcM := And.intro hc1 hs1
        generalize cells + (s3.1 - τ.1) = cells at hcs hcM ⊢; generalize slots + (s3.2.1 - τ.2.1) = slots at hss hcM ⊢
        clear hB hk hz hvm ht hle hck hc1 hs1; generalize H1 = H at hH hS ⊢
        refine lv_lstore (lv' := [(6, .long x2), (0, .long v0), (2, .long v2), (4, .long v4)]) hx hb dX0_isPassed_34 hl (by decide) rfl (fun ls hl => ?_)
        refine lv_lload hx hb dX0_isPassed_36 (lv_at hl 0 rfl) ?_
        refine lv_lconst (v := 1) hx hb dX0_isPassed_38 rfl ?_
        refine W.lcmp hx hb dX0_isPassed_39 ?_
        refine lv_if_ne (tgt := 45) hx hb dX0_isPassed_40 (by decide) (fun c40 => ?_) (fun c40 => ?_)
        · have c40 : ¬ x2 = (1 : Int64) := fun hq => c40 ((lg_cmp_eq _ _).mpr hq)
          have hf := dz_f c40 hf
          exact ih.2 v0 v4 x2 s3 H locs cells slots hH hS hcs hss hcM ls (lv_sub hl [1, 3, 0] rfl) hf
        · have c40 : x2 = (1 : Int64) := (lg_cmp_eq _ _).mp c40
          have hf := dz_t c40 hf
          refine lv_iconst (v := 1) hx hb dX0_isPassed_43 (by decide) ?_
          obtain ⟨hM1, hS1⟩ : cells = M ∧ slots = S := by have hq := congrArg Prod.snd (Option.some.inj hf); rw [← hq] at hM hS0; have hM : s.heap.size + M = s3.1 := hM; have hS0 : sl0 + S = s3.2.1 := hS0; omega
          refine W.widen (k := M) (n := S) (Nat.le_of_eq hM1) (Nat.le_of_eq hS1) ?_
          exact W.zret (v := 1) hx hb hr rfl (fun t ht hW => ⟨⟨1, s3, rfl, Option.some.inj hf, z_at ht hH⟩, hS.F ht⟩) hS.2.2 dX0_isPassed_44
      · have c13 : x1 = (0 : Int64) := (lg_cmp_eq _ _).mp c13
        have hf := dz_t c13 hf
        refine lv_lload hx hb dX0_isPassed_16 (lv_at hl 2 rfl) ?_
        refine lv_ldc2 (v := 2) hx hb hown (hts _ q194) dX0_isPassed_18 ?_
        refine lv_ldiv hx hb dX0_isPassed_21 (by decide) ?_
        refine lv_topl (fun x4 e_x4 => ?_)
        have hf := dz_ls e_x4 hf
        refine lv_lstore (lv' := [(4, .long x4), (0, .long v0), (2, .long v2)]) hx hb dX0_isPassed_22 hl (by decide) rfl (fun ls hl => ?_)
        refine lv_goto (tgt := 5) hx hb dX0_isPassed_24 (by decide) ?_
        exact ih.1 v0 v2 x4 τ H locs cells slots hH hS hcs hss hcM ls (lv_sub hl [1, 2, 0] rfl) hf
    · intro v0 v4 v6 τ H locs cells slots hH hS hcs hss hcM ls hl hf
      have hf : (if (v0 - 1) ≤ v4 then (some (0, τ)) else (if v6 = (v0 - 1) then (some (1, τ)) else (if ¬ v0 = 0 then (dz_l ((v6 * v6) - (v6 * v6) / v0 * v0) fun x2 => dz_l (v4 * 2) fun x3 => (lfX0_isPassed K ζ k).2 v0 x3 x2 τ) else none)) : Option (Int32 × pH)) = some res := hf
      refine lv_lload hx hb dX0_isPassed_45 (lv_at hl 1 rfl) ?_
      refine lv_lload_n hx hb dX0_isPassed_47 rfl (lv_at hl 0 rfl) ?_
      refine lv_lconst (v := 1) hx hb dX0_isPassed_48 rfl ?_
      refine lv_lsub hx hb dX0_isPassed_49 ?_
      refine W.lcmp hx hb dX0_isPassed_50 ?_
      refine lv_if_ge (tgt := 85) hx hb dX0_isPassed_51 (by decide) (fun c51 => ?_) (fun c51 => ?_)
      · have c51 : (v0 - 1) ≤ v4 := (lg_cmp_ge _ _).mp c51
        have hf := dz_t c51 hf
        refine lv_iconst (v := 0) hx hb dX0_isPassed_85 (by decide) ?_
        obtain ⟨hM1, hS1⟩ : cells = M ∧ slots = S := by have hq := congrArg Prod.snd (Option.some.inj hf); rw [← hq] at hM hS0; have hM : s.heap.size + M = τ.1 := hM; have hS0 : sl0 + S = τ.2.1 := hS0; omega
        refine W.widen (k := M) (n := S) (Nat.le_of_eq hM1) (Nat.le_of_eq hS1) ?_
        exact W.zret (v := 0) hx hb hr rfl (fun t ht hW => ⟨⟨0, τ, rfl, Option.some.inj hf, z_at ht hH⟩, hS.F ht⟩) hS.2.2 dX0_isPassed_86
      · have c51 : ¬ (v0 - 1) ≤ v4 := fun hq => c51 ((lg_cmp_ge _ _).mpr hq)
        have hf := dz_f c51 hf
        refine lv_lload hx hb dX0_isPassed_54 (lv_at hl 2 rfl) ?_
        refine lv_lload_n hx hb dX0_isPassed_56 rfl (lv_at hl 0 rfl) ?_
        refine lv_lconst (v := 1) hx hb dX0_isPassed_57 rfl ?_
        refine lv_lsub hx hb dX0_isPassed_58 ?_
        refine W.lcmp hx hb dX0_isPassed_59 ?_
        refine lv_if_ne (tgt := 65) hx hb dX0_isPassed_60 (by decide) (fun c60 => ?_) (fun c60 => ?_)
        · have c60 : ¬ v6 = (v0 - 1) := fun hq => c60 ((lg_cmp_eq _ _).mpr hq)
          have hf := dz_f c60 hf
          refine lv_lload hx hb dX0_isPassed_65 (lv_at hl 2 rfl) ?_
          refine lv_lload hx hb dX0_isPassed_67 (lv_at hl 2 rfl) ?_
          refine lv_lmul hx hb dX0_isPassed_69 ?_
          refine lv_lload_n hx hb dX0_isPassed_70 rfl (lv_at hl 0 rfl) ?_
          obtain ⟨g1, hf⟩ := dz_go hf
          refine lv_lrem hx hb dX0_isPassed_71 g1 ?_
          refine lv_topl (fun x2 e_x2 => ?_)
          have hf := dz_ls e_x2 hf
          refine lv_lstore (lv' := [(6, .long x2), (0, .long v0), (4, .long v4)]) hx hb dX0_isPassed_72 hl (by decide) rfl (fun ls hl => ?_)
          refine lv_lload hx hb dX0_isPassed_74 (lv_at hl 2 rfl) ?_
          refine lv_ldc2 (v := 2) hx hb hown (hts _ q194) dX0_isPassed_76 ?_
          refine lv_lmul hx hb dX0_isPassed_79 ?_
          refine lv_topl (fun x3 e_x3 => ?_)
          have hf := dz_ls e_x3 hf
          refine lv_lstore (lv' := [(4, .long x3), (6, .long x2), (0, .long v0)]) hx hb dX0_isPassed_80 hl (by decide) rfl (fun ls hl => ?_)
          refine lv_goto (tgt := 45) hx hb dX0_isPassed_82 (by decide) ?_
          exact ih.2 v0 x3 x2 τ H locs cells slots hH hS hcs hss hcM ls (lv_sub hl [2, 0, 1] rfl) hf
        · have c60 : v6 = (v0 - 1) := (lg_cmp_eq _ _).mp c60
          have hf := dz_t c60 hf
          refine lv_iconst (v := 1) hx hb dX0_isPassed_63 (by decide) ?_
          obtain ⟨hM1, hS1⟩ : cells = M ∧ slots = S := by have hq := congrArg Prod.snd (Option.some.inj hf); rw [← hq] at hM hS0; have hM : s.heap.size + M = τ.1 := hM; have hS0 : sl0 + S = τ.2.1 := hS0; omega
          refine W.widen (k := M) (n := S) (Nat.le_of_eq hM1) (Nat.le_of_eq hS1) ?_
          exact W.zret (v := 1) hx hb hr rfl (fun t ht hW => ⟨⟨1, τ, rfl, Option.some.inj hf, z_at ht hH⟩, hS.F ht⟩) hS.2.2 dX0_isPassed_64
set_option maxHeartbeats 4000000 in
set_option maxRecDepth 100000 in
theorem mtX0_isPassed (l : Launch) (D : va_G) (cA : Nat → ClassId) (ζ : pZ) (τ : pH) (a0 : Int64) (a1 : Int64) (K : Nat) (res : (Int32 × pH)) (hf : fnX0_isPassed K ζ a0 a1 τ = some res) (M S : Nat) (hM : τ.1 + M = res.2.1) (hS0 : τ.2.1 + S = res.2.2.1) : Met l yX0_isPassed (ws_ yX0_isPassed cX0_isPassed 8 (some .boolean)) ({ frames := 4, cells := M, slots := S, locals := 89 }) (zPc D cA ζ τ [.long a0, .long a1]) (zQi D cA ζ res) M S (zA ζ) := by
  refine Met.ofW (cc := cX0_isPassed) (maxL := 8) (ret := some .boolean) (by decide +kernel) rfl ?_
  intro p e s m args below meth c s₁ B hml hv
  obtain ⟨rfl, hX, hH⟩ := hv
  have hx := B.exec
  have hb := B.bytes
  have hr := B.returns
  have hts := atoms_spec (ws := ws_ yX0_isPassed cX0_isPassed 8 (some .boolean)) B.pre
  have hts : ∀ w ∈ lw_all, w.before _ s = true := fun w h => hts w (List.mem_cons_of_mem _ h)
  have hown : s.vm.findClass RX0 = some m.cls := findClass_of_methodNamed B.named
  have hlocks := B.notSynchronized
  have hM : s.heap.size + M = res.2.1 := by rw [hH.1]; exact hM
  have hcs : s.heap.size + 0 = τ.1 := hH.1
  have hss : τ.2.1 + 0 = τ.2.1 := rfl
  generalize hsl0 : τ.2.1 = sl0 at hS0 hss
  have hss : sl0 + 0 = τ.2.1 := by rw [hsl0]; rfl
  have hS : va_S (zA ζ) s.heap s.heap [] := va_S.rf
  generalize hHe : s.heap = H at hH hS ⊢
  have hS : va_S (zA ζ) s.heap H [] := by rw [hHe]; exact hS
  generalize ([] : List Loc) = locs at hS ⊢
  have hl := lv_entry ([.long a0, .long a1]) (n := 8) (Nat.le_of_ble_eq_true rfl)
  rw [lg_entry_eq]
  generalize (lg_sl ([.long a0, .long a1]) ++ List.replicate (8 - (lg_sl ([.long a0, .long a1])).length) Slot.unset).toArray = ls at hl ⊢
  have hl : lv_has ls 8 [(0, .long a0), (2, .long a1)] := hl
  have hf : (dz_l (a0 - 1) fun x1 => (lfX0_isPassed K ζ K).1 a0 a1 x1 τ : Option (Int32 × pH)) = some res := hf
  refine z_gen (fun cells slots hc0 hs0 => ?_)
  have hcs : s.heap.size + cells = τ.1 := by rw [hc0]; exact hcs
  have hss : sl0 + slots = τ.2.1 := by rw [hs0]; exact hss
  have hcM : cells ≤ M ∧ slots ≤ S := by rw [hc0, hs0]; exact ⟨Nat.zero_le _, Nat.zero_le _⟩
  clear hc0 hs0
  have ih := wlX0_isPassed (l := l) (e := e) (below := below) (D := D) (cA := cA) hX K res M S sl0 hM hS0 a0 a1 hx hb hr hlocks hml hown hts K
  refine lv_lload_n hx hb dX0_isPassed_0 rfl (lv_at hl 0 rfl) ?_
  refine lv_lconst (v := 1) hx hb dX0_isPassed_1 rfl ?_
  refine lv_lsub hx hb dX0_isPassed_2 ?_
  refine lv_topl (fun x1 e_x1 => ?_)
  have hf := dz_ls e_x1 hf
  refine lv_lstore (lv' := [(4, .long x1), (0, .long a0), (2, .long a1)]) hx hb dX0_isPassed_3 hl (by decide) rfl (fun ls hl => ?_)
  exact ih.1 a0 a1 x1 τ H locs cells slots hH hS hcs hss hcM ls (lv_sub hl [1, 2, 0] rfl) hf

noncomputable def fnX0_passes (K : Nat) (ζ : pZ) (h : Nat) (a0 : Int32) (a1 : Int32) (τ : pH) : Option (Int32 × pH) := dz_b (fnX0_isOdd K a0) fun x1 => if x1 = (0 : Int32) then (some ((-1), τ)) else (dz_b (fnJ5_min_2 K 999 (a0 - 1)) fun x2 => dz_b (fnX0_isIn K (Int32.toInt64 a1) 2 (Int32.toInt64 x2)) fun x3 => if x3 = (0 : Int32) then (some ((-1), τ)) else (zcl τ (fnX0_isPassed K ζ (Int32.toInt64 a0) (Int32.toInt64 a1) τ) fun x4 s5 => if x4 = (0 : Int32) then (some (0, s5)) else (some (1, s5))))
set_option maxHeartbeats 4000000 in
set_option maxRecDepth 100000 in
theorem mtX0_passes (l : Launch) (D : va_G) (cA : Nat → ClassId) (ζ : pZ) (τ : pH) (h : Nat) (a0 : Int32) (a1 : Int32) (K : Nat) (res : (Int32 × pH)) (hf : fnX0_passes K ζ h a0 a1 τ = some res) (M S : Nat) (hM : τ.1 + M = res.2.1) (hS0 : τ.2.1 + S = res.2.2.1) : Met l yX0_passes (ws_ yX0_passes cX0_passes 3 (some .int)) ({ frames := 5, cells := M, slots := S, locals := 116 }) (zPc D cA ζ τ [.ref h, .int a0, .int a1]) (zQi D cA ζ res) M S (zA ζ) := by
  refine Met.ofW (cc := cX0_passes) (maxL := 3) (ret := some .int) (by decide +kernel) rfl ?_
  intro p e s m args below meth c s₁ B hml hv
  obtain ⟨rfl, hX, hH⟩ := hv
  have hx := B.exec
  have hb := B.bytes
  have hr := B.returns
  have hts := atoms_spec (ws := ws_ yX0_passes cX0_passes 3 (some .int)) B.pre
  have hts : ∀ w ∈ lw_all, w.before _ s = true := fun w h => hts w (List.mem_cons_of_mem _ h)
  have hown : s.vm.findClass RX0 = some m.cls := findClass_of_methodNamed B.named
  have hlocks := B.notSynchronized
  have hM : s.heap.size + M = res.2.1 := by rw [hH.1]; exact hM
  have hcs : s.heap.size + 0 = τ.1 := hH.1
  have hss : τ.2.1 + 0 = τ.2.1 := rfl
  generalize hsl0 : τ.2.1 = sl0 at hS0 hss
  have hss : sl0 + 0 = τ.2.1 := by rw [hsl0]; rfl
  have hS : va_S (zA ζ) s.heap s.heap [] := va_S.rf
  generalize hHe : s.heap = H at hH hS ⊢
  have hS : va_S (zA ζ) s.heap H [] := by rw [hHe]; exact hS
  generalize ([] : List Loc) = locs at hS ⊢
  have hl := lv_entry ([.ref h, .int a0, .int a1]) (n := 3) (Nat.le_of_ble_eq_true rfl)
  rw [lg_entry_eq]
  generalize (lg_sl ([.ref h, .int a0, .int a1]) ++ List.replicate (3 - (lg_sl ([.ref h, .int a0, .int a1])).length) Slot.unset).toArray = ls at hl ⊢
  have hl : lv_has ls 3 [(0, .ref h), (1, .int a0), (2, .int a1)] := hl
  have hf : (dz_b (fnX0_isOdd K a0) fun x1 => if x1 = (0 : Int32) then (some ((-1), τ)) else (dz_b (fnJ5_min_2 K 999 (a0 - 1)) fun x2 => dz_b (fnX0_isIn K (Int32.toInt64 a1) 2 (Int32.toInt64 x2)) fun x3 => if x3 = (0 : Int32) then (some ((-1), τ)) else (zcl τ (fnX0_isPassed K ζ (Int32.toInt64 a0) (Int32.toInt64 a1) τ) fun x4 s5 => if x4 = (0 : Int32) then (some (0, s5)) else (some (1, s5)))) : Option (Int32 × pH)) = some res := hf
  refine z_gen (fun cells slots hc0 hs0 => ?_)
  have hcs : s.heap.size + cells = τ.1 := by rw [hc0]; exact hcs
  have hss : sl0 + slots = τ.2.1 := by rw [hs0]; exact hss
  have hcM : cells ≤ M ∧ slots ≤ S := by rw [hc0, hs0]; exact ⟨Nat.zero_le _, Nat.zero_le _⟩
  clear hc0 hs0
  refine lv_iload_n hx hb dX0_passes_0 rfl (lv_at hl 1 rfl) ?_
  obtain ⟨x1, hx1, hf⟩ := dz_bo hf
  refine va_calli (va_runS (As := [.int a0]) (rest := []) ⟨hx, hb, hml, hown, hts⟩ (mtX0_isOdd l a0 K x1 hx1) (va_cwS 1 hts (lw_S q1621 q1622 q84 q1623) rfl rfl rfl (by decide +kernel) ⟨Nat.le_of_ble_eq_true rfl, Nat.le_of_ble_eq_true rfl⟩) ⟨fun a U g mk q => q, fun U hU hW => ⟨rfl, trivial⟩⟩ rfl rfl hl.1 rfl (lv_room (Nat.le_of_ble_eq_true rfl)) dX0_passes_1 ⟨hcM.1, hcM.2⟩) hS (fun q _ hq => hq.elim) (fun q hq => hq.elim) (fun r u t H1 locs ht hvm hw hB hz hk hS => dz_size (fun hz9 => ?_))
  replace hw := hw.symm; subst hw
  replace hH := zH_keep hH hcs hz hk hz9
  clear hB hk hz hvm ht hz9; generalize H1 = H at hH hS ⊢
  refine W.widen (k := cells) (n := slots) (Nat.le_refl _) (Nat.le_refl _) ?_
  refine lv_if_eq (tgt := 46) hx hb dX0_passes_4 (by decide) (fun c4 => ?_) (fun c4 => ?_)
  · have hf := dz_t c4 hf
    refine lv_iconst (v := (-1)) hx hb dX0_passes_46 (by decide) ?_
    obtain ⟨hM1, hS1⟩ : cells = M ∧ slots = S := by have hq := congrArg Prod.snd (Option.some.inj hf); rw [← hq] at hM hS0; have hM : s.heap.size + M = τ.1 := hM; have hS0 : sl0 + S = τ.2.1 := hS0; omega
    refine W.widen (k := M) (n := S) (Nat.le_of_eq hM1) (Nat.le_of_eq hS1) ?_
    exact W.iret (v := (-1)) hx hb hr (fun t ht hW => ⟨⟨(-1), τ, rfl, Option.some.inj hf, z_at ht hH⟩, hS.F ht⟩) hS.2.2 dX0_passes_47
  · have hf := dz_f c4 hf
    refine lv_iload_n hx hb dX0_passes_7 rfl (lv_at hl 2 rfl) ?_
    refine lv_i2l hx hb dX0_passes_8 (rfl : _ = Int32.toInt64 a1) ?_
    refine lv_ldc2 (v := 2) hx hb hown (hts _ q194) dX0_passes_9 ?_
    refine lv_sipush (v := 999) hx hb dX0_passes_12 (by decide) ?_
    refine lv_iload_n hx hb dX0_passes_15 rfl (lv_at hl 1 rfl) ?_
    refine lv_iconst (v := 1) hx hb dX0_passes_16 (by decide) ?_
    refine lv_isub hx hb dX0_passes_17 ?_
    obtain ⟨x2, hx2, hf⟩ := dz_bo hf
    refine va_calli (va_runS (As := [.int 999, .int (a0 - 1)]) (rest := [.long 2, .long (Int32.toInt64 a1)]) ⟨hx, hb, hml, hown, hts⟩ (mtJ5_min_2 l 999 (a0 - 1) K x2 hx2) (va_cwS 2 hts (lw_S q876 q852 q92 q853) rfl rfl rfl (by decide +kernel) ⟨Nat.le_of_ble_eq_true rfl, Nat.le_of_ble_eq_true rfl⟩) ⟨fun a U g mk q => q, fun U hU hW => ⟨rfl, trivial⟩⟩ rfl rfl hl.1 rfl (lv_room (Nat.le_of_ble_eq_true rfl)) dX0_passes_18 ⟨hcM.1, hcM.2⟩) hS (fun q _ hq => hq.elim) (fun q hq => hq.elim) (fun r u t H1 locs ht hvm hw hB hz hk hS => dz_size (fun hz9 => ?_))
    replace hw := hw.symm; subst hw
    replace hH := zH_keep hH hcs hz hk hz9
    clear hB hk hz hvm ht hz9; generalize H1 = H at hH hS ⊢
    refine W.widen (k := cells) (n := slots) (Nat.le_refl _) (Nat.le_refl _) ?_
    refine lv_i2l hx hb dX0_passes_21 (rfl : _ = Int32.toInt64 x2) ?_
    obtain ⟨x3, hx3, hf⟩ := dz_bo hf
    refine va_calli (va_runS (As := [.long (Int32.toInt64 a1), .long 2, .long (Int32.toInt64 x2)]) (rest := []) ⟨hx, hb, hml, hown, hts⟩ (mtX0_isIn l (Int32.toInt64 a1) 2 (Int32.toInt64 x2) K x3 hx3) (va_cwS 3 hts (lw_S q188 q189 q84 q190) rfl rfl rfl (by decide +kernel) ⟨Nat.le_of_ble_eq_true rfl, Nat.le_of_ble_eq_true rfl⟩) ⟨fun a U g mk q => q, fun U hU hW => ⟨rfl, trivial⟩⟩ rfl rfl hl.1 rfl (lv_room (Nat.le_of_ble_eq_true rfl)) dX0_passes_22 ⟨hcM.1, hcM.2⟩) hS (fun q _ hq => hq.elim) (fun q hq => hq.elim) (fun r u t H1 locs ht hvm hw hB hz hk hS => dz_size (fun hz9 => ?_))
    replace hw := hw.symm; subst hw
    replace hH := zH_keep hH hcs hz hk hz9
    clear hB hk hz hvm ht hz9; generalize H1 = H at hH hS ⊢
    refine W.widen (k := cells) (n := slots) (Nat.le_refl _) (Nat.le_refl _) ?_
    refine lv_if_eq (tgt := 46) hx hb dX0_passes_25 (by decide) (fun c25 => ?_) (fun c25 => ?_)
    · have hf := dz_t c25 hf
      refine lv_iconst (v := (-1)) hx hb dX0_passes_46 (by decide) ?_
      obtain ⟨hM1, hS1⟩ : cells = M ∧ slots = S := by have hq := congrArg Prod.snd (Option.some.inj hf); rw [← hq] at hM hS0; have hM : s.heap.size + M = τ.1 := hM; have hS0 : sl0 + S = τ.2.1 := hS0; omega
      refine W.widen (k := M) (n := S) (Nat.le_of_eq hM1) (Nat.le_of_eq hS1) ?_
      exact W.iret (v := (-1)) hx hb hr (fun t ht hW => ⟨⟨(-1), τ, rfl, Option.some.inj hf, z_at ht hH⟩, hS.F ht⟩) hS.2.2 dX0_passes_47
    · have hf := dz_f c25 hf
      refine lv_iload_n hx hb dX0_passes_28 rfl (lv_at hl 1 rfl) ?_
      refine lv_i2l hx hb dX0_passes_29 (rfl : _ = Int32.toInt64 a0) ?_
      refine lv_iload_n hx hb dX0_passes_30 rfl (lv_at hl 2 rfl) ?_
      refine lv_i2l hx hb dX0_passes_31 (rfl : _ = Int32.toInt64 a1) ?_
      obtain ⟨x4, s5, hx4, hle, hck, hf⟩ := zcl_o hf
      have hc1 : cells + (s5.1 - τ.1) ≤ M := by omega
      have hs1 : slots + (s5.2.1 - τ.2.1) ≤ S := by omega
      refine va_calli (va_runS (As := [.long (Int32.toInt64 a0), .long (Int32.toInt64 a1)]) (rest := []) ⟨hx, hb, hml, hown, hts⟩ (mtX0_isPassed l D cA ζ τ (Int32.toInt64 a0) (Int32.toInt64 a1) K (x4, s5) hx4 (s5.1 - τ.1) (s5.2.1 - τ.2.1) (Nat.add_sub_cancel' hle.1) (Nat.add_sub_cancel' hle.2)) (va_cwS 2 hts (lw_S q1624 q1625 q84 q1626) rfl rfl rfl (by decide +kernel) ⟨Nat.le_of_ble_eq_true rfl, Nat.le_of_ble_eq_true rfl⟩) (z_preS hX hS hH) rfl rfl hl.1 rfl (lv_room (Nat.le_of_ble_eq_true rfl)) dX0_passes_32 ⟨hc1, hs1⟩) hS (fun q _ hq => hq) (fun q hq => hq) (fun r u t H1 locs ht hvm hw hB hz hk hS => ?_)
      obtain ⟨hw1, hw2⟩ := Prod.mk.inj hw.symm; subst hw1; subst hw2
      have hH : zH D cA ζ s5 H1 := z_at ht.symm hB
      have hcs : s.heap.size + (cells + (s5.1 - τ.1)) = s5.1 := by omega
      have hss : sl0 + (slots + (s5.2.1 - τ.2.1)) = s5.2.1 := by omega
      replace hcM := And.intro hc1 hs1
      generalize cells + (s5.1 - τ.1) = cells at hcs hcM ⊢; generalize slots + (s5.2.1 - τ.2.1) = slots at hss hcM ⊢
      clear hB hk hz hvm ht hle hck hc1 hs1; generalize H1 = H at hH hS ⊢
      refine lv_if_eq (tgt := 42) hx hb dX0_passes_35 (by decide) (fun c35 => ?_) (fun c35 => ?_)
      · have hf := dz_t c35 hf
        refine lv_iconst (v := 0) hx hb dX0_passes_42 (by decide) ?_
        refine lv_goto (tgt := 47) hx hb dX0_passes_43 (by decide) ?_
        obtain ⟨hM1, hS1⟩ : cells = M ∧ slots = S := by have hq := congrArg Prod.snd (Option.some.inj hf); rw [← hq] at hM hS0; have hM : s.heap.size + M = s5.1 := hM; have hS0 : sl0 + S = s5.2.1 := hS0; omega
        refine W.widen (k := M) (n := S) (Nat.le_of_eq hM1) (Nat.le_of_eq hS1) ?_
        exact W.iret (v := 0) hx hb hr (fun t ht hW => ⟨⟨0, s5, rfl, Option.some.inj hf, z_at ht hH⟩, hS.F ht⟩) hS.2.2 dX0_passes_47
      · have hf := dz_f c35 hf
        refine lv_iconst (v := 1) hx hb dX0_passes_38 (by decide) ?_
        refine lv_goto (tgt := 47) hx hb dX0_passes_39 (by decide) ?_
        obtain ⟨hM1, hS1⟩ : cells = M ∧ slots = S := by have hq := congrArg Prod.snd (Option.some.inj hf); rw [← hq] at hM hS0; have hM : s.heap.size + M = s5.1 := hM; have hS0 : sl0 + S = s5.2.1 := hS0; omega
        refine W.widen (k := M) (n := S) (Nat.le_of_eq hM1) (Nat.le_of_eq hS1) ?_
        exact W.iret (v := 1) hx hb hr (fun t ht hW => ⟨⟨1, s5, rfl, Option.some.inj hf, z_at ht hH⟩, hS.F ht⟩) hS.2.2 dX0_passes_47

noncomputable def lfX0_fools (K : Nat) (ζ : pZ) : Nat → (Int32 → Int32 → Int32 → Int32 → Int32 → pH → Option (Int32 × pH)) × (Int32 → Int32 → Int32 → Int32 → Int32 → pH → Option (Int32 × pH)) × (Int32 → Int32 → Int32 → pH → Option (Int32 × pH)) := Nat.rec (motive := fun _ => (Int32 → Int32 → Int32 → Int32 → Int32 → pH → Option (Int32 × pH)) × (Int32 → Int32 → Int32 → Int32 → Int32 → pH → Option (Int32 × pH)) × (Int32 → Int32 → Int32 → pH → Option (Int32 × pH))) ((fun _ _ _ _ _ _ => none), (fun _ _ _ _ _ _ => none), (fun _ _ _ _ => none)) (fun _ G => ((fun v1 v2 v3 v4 v5 τ => if (999 : Int32) < v5 then (G.2.2 v2 v3 v4 τ) else (if v1 ≤ v5 then (G.2.2 v2 v3 v4 τ) else (zcl τ (fnX0_isPassed K ζ (Int32.toInt64 v1) (Int32.toInt64 v5) τ) fun x1 s2 => if x1 = (0 : Int32) then (dz_l (v3 + 0) fun x3 => if x1 = (0 : Int32) then (if v4 = (0 : Int32) then (dz_l (v5 + 1) fun x4 => G.1 v1 v2 x3 v5 x4 s2) else (G.2.1 v1 v2 x3 v4 v5 s2)) else (G.2.1 v1 v2 x3 v4 v5 s2)) else (dz_l (v3 + 1) fun x5 => if x1 = (0 : Int32) then (if v4 = (0 : Int32) then (dz_l (v5 + 1) fun x6 => G.1 v1 v2 x5 v5 x6 s2) else (G.2.1 v1 v2 x5 v4 v5 s2)) else (G.2.1 v1 v2 x5 v4 v5 s2))))), (fun v1 v2 v3 v4 v5 τ => dz_l (v5 + 1) fun x1 => G.1 v1 v2 v3 v4 x1 τ), (fun v2 v3 v4 τ => if v2 = (0 : Int32) then (some (v3, τ)) else (some (v4, τ)))))
noncomputable def fnX0_fools (K : Nat) (ζ : pZ) (h : Nat) (a0 : Int32) (a1 : Int32) (τ : pH) : Option (Int32 × pH) := dz_b (fnX0_isOdd K a0) fun x1 => if x1 = (0 : Int32) then (some ((-1), τ)) else (dz_b (fnX0_isIn K (Int32.toInt64 a1) 0 1) fun x2 => if x2 = (0 : Int32) then (some ((-1), τ)) else ((lfX0_fools K ζ K).1 a0 a1 0 0 2 τ))
set_option maxHeartbeats 4000000 in
set_option maxRecDepth 100000 in
theorem wlX0_fools {p : Program} {l : Launch} {e : Env} {s : State} {m : MethodId} {below : List Frame} {meth : Method} {c : Code} {D : va_G} {cA : Nat → ClassId} {ζ : pZ} (hX : zX D cA ζ s) (K : Nat) (res : (Int32 × pH)) (M S sl0 : Nat) (hM : s.heap.size + M = res.2.1) (hS0 : sl0 + S = res.2.2.1) (h : Nat) (a0 : Int32) (a1 : Int32) (hx : p.tables.exec = Jvm.exec) (hb : c.code = cX0_fools) (hr : meth.sig.returnType = some .int) (hlocks : meth.locks = false) (hml : c.maxLocals = 7) (hown : s.vm.findClass RX0 = some m.cls) (hts : ∀ w ∈ lw_all, w.before ([.ref h, .int a0, .int a1] : List Value).toArray s = true) : ∀ k : Nat, (∀ (v1 : Int32) (v2 : Int32) (v3 : Int32) (v4 : Int32) (v5 : Int32) (τ : pH) (H : Heap) (locs : List Loc) (cells slots : Nat), zH D cA ζ τ H → va_S (zA ζ) s.heap H locs → s.heap.size + cells = τ.1 → sl0 + slots = τ.2.1 → cells ≤ M ∧ slots ≤ S → ∀ (ls : Array Slot), lv_has ls 7 [(1, .int v1), (2, .int v2), (3, .int v3), (4, .int v4), (5, .int v5)] → (lfX0_fools K ζ k).1 v1 v2 v3 v4 v5 τ = some res → W p l e (headSpec (ws_ yX0_fools cX0_fools 7 (some .int)) ({ frames := 5, cells := M, slots := S, locals := 116 })).room s m ([.ref h, .int a0, .int a1] : List Value).toArray below meth c H locs cells slots (MQ below (zQi D cA ζ res) ([.ref h, .int a0, .int a1] : List Value).toArray s M S (zA ζ)) (F0 m 27 ls [])) ∧ (∀ (v1 : Int32) (v2 : Int32) (v3 : Int32) (v4 : Int32) (v5 : Int32) (τ : pH) (H : Heap) (locs : List Loc) (cells slots : Nat), zH D cA ζ τ H → va_S (zA ζ) s.heap H locs → s.heap.size + cells = τ.1 → sl0 + slots = τ.2.1 → cells ≤ M ∧ slots ≤ S → ∀ (ls : Array Slot), lv_has ls 7 [(1, .int v1), (2, .int v2), (3, .int v3), (4, .int v4), (5, .int v5)] → (lfX0_fools K ζ k).2.1 v1 v2 v3 v4 v5 τ = some res → W p l e (headSpec (ws_ yX0_fools cX0_fools 7 (some .int)) ({ frames := 5, cells := M, slots := S, locals := 116 })).room s m ([.ref h, .int a0, .int a1] : List Value).toArray below meth c H locs cells slots (MQ below (zQi D cA ζ res) ([.ref h, .int a0, .int a1] : List Value).toArray s M S (zA ζ)) (F0 m 79 ls [])) ∧ (∀ (v2 : Int32) (v3 : Int32) (v4 : Int32) (τ : pH) (H : Heap) (locs : List Loc) (cells slots : Nat), zH D cA ζ τ H → va_S (zA ζ) s.heap H locs → s.heap.size + cells = τ.1 → sl0 + slots = τ.2.1 → cells ≤ M ∧ slots ≤ S → ∀ (ls : Array Slot), lv_has ls 7 [(2, .int v2), (3, .int v3), (4, .int v4)] → (lfX0_fools K ζ k).2.2 v2 v3 v4 τ = some res → W p l e (headSpec (ws_ yX0_fools cX0_fools 7 (some .int)) ({ frames := 5, cells := M, slots := S, locals := 116 })).room s m ([.ref h, .int a0, .int a1] : List Value).toArray below meth c H locs cells slots (MQ below (zQi D cA ζ res) ([.ref h, .int a0, .int a1] : List Value).toArray s M S (zA ζ)) (F0 m 89 ls [])) := by
  intro k
  induction k with
  | zero =>
    exact ⟨fun _ _ _ _ _ _ _ _ _ _ _ _ _ _ _ _ _ hf => (by cases hf), fun _ _ _ _ _ _ _ _ _ _ _ _ _ _ _ _ _ hf => (by cases hf), fun _ _ _ _ _ _ _ _ _ _ _ _ _ _ _ hf => (by cases hf)⟩
  | succ k ih =>
    refine ⟨?_, ?_, ?_⟩
    · intro v1 v2 v3 v4 v5 τ H locs cells slots hH hS hcs hss hcM ls hl hf
      have hf : (if (999 : Int32) < v5 then ((lfX0_fools K ζ k).2.2 v2 v3 v4 τ) else (if v1 ≤ v5 then ((lfX0_fools K ζ k).2.2 v2 v3 v4 τ) else (zcl τ (fnX0_isPassed K ζ (Int32.toInt64 v1) (Int32.toInt64 v5) τ) fun x1 s2 => if x1 = (0 : Int32) then (dz_l (v3 + 0) fun x3 => if x1 = (0 : Int32) then (if v4 = (0 : Int32) then (dz_l (v5 + 1) fun x4 => (lfX0_fools K ζ k).1 v1 v2 x3 v5 x4 s2) else ((lfX0_fools K ζ k).2.1 v1 v2 x3 v4 v5 s2)) else ((lfX0_fools K ζ k).2.1 v1 v2 x3 v4 v5 s2)) else (dz_l (v3 + 1) fun x5 => if x1 = (0 : Int32) then (if v4 = (0 : Int32) then (dz_l (v5 + 1) fun x6 => (lfX0_fools K ζ k).1 v1 v2 x5 v5 x6 s2) else ((lfX0_fools K ζ k).2.1 v1 v2 x5 v4 v5 s2)) else ((lfX0_fools K ζ k).2.1 v1 v2 x5 v4 v5 s2)))) : Option (Int32 × pH)) = some res := hf
      refine lv_iload hx hb dX0_fools_27 (lv_at hl 4 rfl) ?_
      refine lv_sipush (v := 999) hx hb dX0_fools_29 (by decide) ?_
      refine lv_icmp_gt (tgt := 89) hx hb dX0_fools_32 (by decide) (fun c32 => ?_) (fun c32 => ?_)
      · have hf := dz_t c32 hf
        exact ih.2.2 v2 v3 v4 τ H locs cells slots hH hS hcs hss hcM ls (lv_sub hl [1, 2, 3] rfl) hf
      · have hf := dz_f c32 hf
        refine lv_iload hx hb dX0_fools_35 (lv_at hl 4 rfl) ?_
        refine lv_iload_n hx hb dX0_fools_37 rfl (lv_at hl 0 rfl) ?_
        refine lv_icmp_ge (tgt := 89) hx hb dX0_fools_38 (by decide) (fun c38 => ?_) (fun c38 => ?_)
        · have hf := dz_t c38 hf
          exact ih.2.2 v2 v3 v4 τ H locs cells slots hH hS hcs hss hcM ls (lv_sub hl [1, 2, 3] rfl) hf
        · have hf := dz_f c38 hf
          refine lv_iload_n hx hb dX0_fools_41 rfl (lv_at hl 0 rfl) ?_
          refine lv_i2l hx hb dX0_fools_42 (rfl : _ = Int32.toInt64 v1) ?_
          refine lv_iload hx hb dX0_fools_43 (lv_at hl 4 rfl) ?_
          refine lv_i2l hx hb dX0_fools_45 (rfl : _ = Int32.toInt64 v5) ?_
          obtain ⟨x1, s2, hx1, hle, hck, hf⟩ := zcl_o hf
          have hc1 : cells + (s2.1 - τ.1) ≤ M := by omega
          have hs1 : slots + (s2.2.1 - τ.2.1) ≤ S := by omega
          refine va_calli (va_runS (As := [.long (Int32.toInt64 v1), .long (Int32.toInt64 v5)]) (rest := []) ⟨hx, hb, hml, hown, hts⟩ (mtX0_isPassed l D cA ζ τ (Int32.toInt64 v1) (Int32.toInt64 v5) K (x1, s2) hx1 (s2.1 - τ.1) (s2.2.1 - τ.2.1) (Nat.add_sub_cancel' hle.1) (Nat.add_sub_cancel' hle.2)) (va_cwS 2 hts (lw_S q1624 q1625 q84 q1626) rfl rfl rfl (by decide +kernel) ⟨Nat.le_of_ble_eq_true rfl, Nat.le_of_ble_eq_true rfl⟩) (z_preS hX hS hH) rfl rfl hl.1 rfl (lv_room (Nat.le_of_ble_eq_true rfl)) dX0_fools_46 ⟨hc1, hs1⟩) hS (fun q _ hq => hq) (fun q hq => hq) (fun r u t H1 locs ht hvm hw hB hz hk hS => ?_)
          obtain ⟨hw1, hw2⟩ := Prod.mk.inj hw.symm; subst hw1; subst hw2
          have hH : zH D cA ζ s2 H1 := z_at ht.symm hB
          have hcs : s.heap.size + (cells + (s2.1 - τ.1)) = s2.1 := by omega
          have hss : sl0 + (slots + (s2.2.1 - τ.2.1)) = s2.2.1 := by omega
          replace hcM := And.intro hc1 hs1
          generalize cells + (s2.1 - τ.1) = cells at hcs hcM ⊢; generalize slots + (s2.2.1 - τ.2.1) = slots at hss hcM ⊢
          clear hB hk hz hvm ht hle hck hc1 hs1; generalize H1 = H at hH hS ⊢
          refine lv_istore (lv' := [(6, .int x1), (1, .int v1), (2, .int v2), (3, .int v3), (4, .int v4), (5, .int v5)]) hx hb dX0_fools_49 hl (by decide) rfl (fun ls hl => ?_)
          refine lv_iload_n hx hb dX0_fools_51 rfl (lv_at hl 3 rfl) ?_
          refine lv_iload hx hb dX0_fools_52 (lv_at hl 0 rfl) ?_
          refine lv_if_eq (tgt := 61) hx hb dX0_fools_54 (by decide) (fun c54 => ?_) (fun c54 => ?_)
          · have hf := dz_t c54 hf
            refine lv_iconst (v := 0) hx hb dX0_fools_61 (by decide) ?_
            refine lv_iadd hx hb dX0_fools_62 ?_
            refine lv_topi (fun x3 e_x3 => ?_)
            have hf := dz_ls e_x3 hf
            refine lv_istore_n (lv' := [(3, .int x3), (6, .int x1), (1, .int v1), (2, .int v2), (4, .int v4), (5, .int v5)]) hx hb dX0_fools_63 rfl hl (by decide) rfl (fun ls hl => ?_)
            refine lv_iload hx hb dX0_fools_64 (lv_at hl 1 rfl) ?_
            refine lv_if_ne (tgt := 79) hx hb dX0_fools_66 (by decide) (fun c66 => ?_) (fun c66 => ?_)
            · have hf := dz_f c66 hf
              exact ih.2.1 v1 v2 x3 v4 v5 s2 H locs cells slots hH hS hcs hss hcM ls (lv_sub hl [2, 3, 0, 4, 5] rfl) hf
            · have hf := dz_t c66 hf
              refine lv_iload hx hb dX0_fools_69 (lv_at hl 4 rfl) ?_
              refine lv_if_ne (tgt := 79) hx hb dX0_fools_71 (by decide) (fun c71 => ?_) (fun c71 => ?_)
              · have hf := dz_f c71 hf
                exact ih.2.1 v1 v2 x3 v4 v5 s2 H locs cells slots hH hS hcs hss hcM ls (lv_sub hl [2, 3, 0, 4, 5] rfl) hf
              · have hf := dz_t c71 hf
                refine lv_iload hx hb dX0_fools_74 (lv_at hl 5 rfl) ?_
                refine lv_goto (tgt := 81) hx hb dX0_fools_76 (by decide) ?_
                refine lv_istore (lv' := [(4, .int v5), (3, .int x3), (6, .int x1), (1, .int v1), (2, .int v2), (5, .int v5)]) hx hb dX0_fools_81 hl (by decide) rfl (fun ls hl => ?_)
                obtain ⟨x4, e_x4, hf⟩ := dz_lo hf
                refine lv_iinc (v := x4) (lv' := [(5, .int x4), (4, .int v5), (3, .int x3), (6, .int x1), (1, .int v1), (2, .int v2)]) hx hb dX0_fools_83 hl (k := 5) rfl (by rw [e_x4]; rfl) (by decide) rfl (fun ls hl => ?_)
                refine lv_goto (tgt := 27) hx hb dX0_fools_86 (by decide) ?_
                exact ih.1 v1 v2 x3 v5 x4 s2 H locs cells slots hH hS hcs hss hcM ls (lv_sub hl [4, 5, 2, 1, 0] rfl) hf
          · have hf := dz_f c54 hf
            refine lv_iconst (v := 1) hx hb dX0_fools_57 (by decide) ?_
            refine lv_goto (tgt := 62) hx hb dX0_fools_58 (by decide) ?_
            refine lv_iadd hx hb dX0_fools_62 ?_
            refine lv_topi (fun x5 e_x5 => ?_)
            have hf := dz_ls e_x5 hf
            refine lv_istore_n (lv' := [(3, .int x5), (6, .int x1), (1, .int v1), (2, .int v2), (4, .int v4), (5, .int v5)]) hx hb dX0_fools_63 rfl hl (by decide) rfl (fun ls hl => ?_)
            refine lv_iload hx hb dX0_fools_64 (lv_at hl 1 rfl) ?_
            refine lv_if_ne (tgt := 79) hx hb dX0_fools_66 (by decide) (fun c66 => ?_) (fun c66 => ?_)
            · have hf := dz_f c66 hf
              exact ih.2.1 v1 v2 x5 v4 v5 s2 H locs cells slots hH hS hcs hss hcM ls (lv_sub hl [2, 3, 0, 4, 5] rfl) hf
            · have hf := dz_t c66 hf
              refine lv_iload hx hb dX0_fools_69 (lv_at hl 4 rfl) ?_
              refine lv_if_ne (tgt := 79) hx hb dX0_fools_71 (by decide) (fun c71 => ?_) (fun c71 => ?_)
              · have hf := dz_f c71 hf
                exact ih.2.1 v1 v2 x5 v4 v5 s2 H locs cells slots hH hS hcs hss hcM ls (lv_sub hl [2, 3, 0, 4, 5] rfl) hf
              · have hf := dz_t c71 hf
                refine lv_iload hx hb dX0_fools_74 (lv_at hl 5 rfl) ?_
                refine lv_goto (tgt := 81) hx hb dX0_fools_76 (by decide) ?_
                refine lv_istore (lv' := [(4, .int v5), (3, .int x5), (6, .int x1), (1, .int v1), (2, .int v2), (5, .int v5)]) hx hb dX0_fools_81 hl (by decide) rfl (fun ls hl => ?_)
                obtain ⟨x6, e_x6, hf⟩ := dz_lo hf
                refine lv_iinc (v := x6) (lv' := [(5, .int x6), (4, .int v5), (3, .int x5), (6, .int x1), (1, .int v1), (2, .int v2)]) hx hb dX0_fools_83 hl (k := 5) rfl (by rw [e_x6]; rfl) (by decide) rfl (fun ls hl => ?_)
                refine lv_goto (tgt := 27) hx hb dX0_fools_86 (by decide) ?_
                exact ih.1 v1 v2 x5 v5 x6 s2 H locs cells slots hH hS hcs hss hcM ls (lv_sub hl [4, 5, 2, 1, 0] rfl) hf
    · intro v1 v2 v3 v4 v5 τ H locs cells slots hH hS hcs hss hcM ls hl hf
      have hf : (dz_l (v5 + 1) fun x1 => (lfX0_fools K ζ k).1 v1 v2 v3 v4 x1 τ : Option (Int32 × pH)) = some res := hf
      refine lv_iload hx hb dX0_fools_79 (lv_at hl 3 rfl) ?_
      refine lv_istore (lv' := [(4, .int v4), (1, .int v1), (2, .int v2), (3, .int v3), (5, .int v5)]) hx hb dX0_fools_81 hl (by decide) rfl (fun ls hl => ?_)
      obtain ⟨x1, e_x1, hf⟩ := dz_lo hf
      refine lv_iinc (v := x1) (lv' := [(5, .int x1), (4, .int v4), (1, .int v1), (2, .int v2), (3, .int v3)]) hx hb dX0_fools_83 hl (k := 4) rfl (by rw [e_x1]; rfl) (by decide) rfl (fun ls hl => ?_)
      refine lv_goto (tgt := 27) hx hb dX0_fools_86 (by decide) ?_
      exact ih.1 v1 v2 v3 v4 x1 τ H locs cells slots hH hS hcs hss hcM ls (lv_sub hl [2, 3, 4, 1, 0] rfl) hf
    · intro v2 v3 v4 τ H locs cells slots hH hS hcs hss hcM ls hl hf
      have hf : (if v2 = (0 : Int32) then (some (v3, τ)) else (some (v4, τ)) : Option (Int32 × pH)) = some res := hf
      refine lv_iload_n hx hb dX0_fools_89 rfl (lv_at hl 0 rfl) ?_
      refine lv_if_ne (tgt := 97) hx hb dX0_fools_90 (by decide) (fun c90 => ?_) (fun c90 => ?_)
      · have hf := dz_f c90 hf
        refine lv_iload hx hb dX0_fools_97 (lv_at hl 2 rfl) ?_
        obtain ⟨hM1, hS1⟩ : cells = M ∧ slots = S := by have hq := congrArg Prod.snd (Option.some.inj hf); rw [← hq] at hM hS0; have hM : s.heap.size + M = τ.1 := hM; have hS0 : sl0 + S = τ.2.1 := hS0; omega
        refine W.widen (k := M) (n := S) (Nat.le_of_eq hM1) (Nat.le_of_eq hS1) ?_
        exact W.iret (v := v4) hx hb hr (fun t ht hW => ⟨⟨v4, τ, rfl, Option.some.inj hf, z_at ht hH⟩, hS.F ht⟩) hS.2.2 dX0_fools_99
      · have hf := dz_t c90 hf
        refine lv_iload_n hx hb dX0_fools_93 rfl (lv_at hl 1 rfl) ?_
        refine lv_goto (tgt := 99) hx hb dX0_fools_94 (by decide) ?_
        obtain ⟨hM1, hS1⟩ : cells = M ∧ slots = S := by have hq := congrArg Prod.snd (Option.some.inj hf); rw [← hq] at hM hS0; have hM : s.heap.size + M = τ.1 := hM; have hS0 : sl0 + S = τ.2.1 := hS0; omega
        refine W.widen (k := M) (n := S) (Nat.le_of_eq hM1) (Nat.le_of_eq hS1) ?_
        exact W.iret (v := v3) hx hb hr (fun t ht hW => ⟨⟨v3, τ, rfl, Option.some.inj hf, z_at ht hH⟩, hS.F ht⟩) hS.2.2 dX0_fools_99
set_option maxHeartbeats 4000000 in
set_option maxRecDepth 100000 in
theorem mtX0_fools (l : Launch) (D : va_G) (cA : Nat → ClassId) (ζ : pZ) (τ : pH) (h : Nat) (a0 : Int32) (a1 : Int32) (K : Nat) (res : (Int32 × pH)) (hf : fnX0_fools K ζ h a0 a1 τ = some res) (M S : Nat) (hM : τ.1 + M = res.2.1) (hS0 : τ.2.1 + S = res.2.2.1) : Met l yX0_fools (ws_ yX0_fools cX0_fools 7 (some .int)) ({ frames := 5, cells := M, slots := S, locals := 116 }) (zPc D cA ζ τ [.ref h, .int a0, .int a1]) (zQi D cA ζ res) M S (zA ζ) := by
  refine Met.ofW (cc := cX0_fools) (maxL := 7) (ret := some .int) (by decide +kernel) rfl ?_
  intro p e s m args below meth c s₁ B hml hv
  obtain ⟨rfl, hX, hH⟩ := hv
  have hx := B.exec
  have hb := B.bytes
  have hr := B.returns
  have hts := atoms_spec (ws := ws_ yX0_fools cX0_fools 7 (some .int)) B.pre
  have hts : ∀ w ∈ lw_all, w.before _ s = true := fun w h => hts w (List.mem_cons_of_mem _ h)
  have hown : s.vm.findClass RX0 = some m.cls := findClass_of_methodNamed B.named
  have hlocks := B.notSynchronized
  have hM : s.heap.size + M = res.2.1 := by rw [hH.1]; exact hM
  have hcs : s.heap.size + 0 = τ.1 := hH.1
  have hss : τ.2.1 + 0 = τ.2.1 := rfl
  generalize hsl0 : τ.2.1 = sl0 at hS0 hss
  have hss : sl0 + 0 = τ.2.1 := by rw [hsl0]; rfl
  have hS : va_S (zA ζ) s.heap s.heap [] := va_S.rf
  generalize hHe : s.heap = H at hH hS ⊢
  have hS : va_S (zA ζ) s.heap H [] := by rw [hHe]; exact hS
  generalize ([] : List Loc) = locs at hS ⊢
  have hl := lv_entry ([.ref h, .int a0, .int a1]) (n := 7) (Nat.le_of_ble_eq_true rfl)
  rw [lg_entry_eq]
  generalize (lg_sl ([.ref h, .int a0, .int a1]) ++ List.replicate (7 - (lg_sl ([.ref h, .int a0, .int a1])).length) Slot.unset).toArray = ls at hl ⊢
  have hl : lv_has ls 7 [(0, .ref h), (1, .int a0), (2, .int a1)] := hl
  have hf : (dz_b (fnX0_isOdd K a0) fun x1 => if x1 = (0 : Int32) then (some ((-1), τ)) else (dz_b (fnX0_isIn K (Int32.toInt64 a1) 0 1) fun x2 => if x2 = (0 : Int32) then (some ((-1), τ)) else ((lfX0_fools K ζ K).1 a0 a1 0 0 2 τ)) : Option (Int32 × pH)) = some res := hf
  refine z_gen (fun cells slots hc0 hs0 => ?_)
  have hcs : s.heap.size + cells = τ.1 := by rw [hc0]; exact hcs
  have hss : sl0 + slots = τ.2.1 := by rw [hs0]; exact hss
  have hcM : cells ≤ M ∧ slots ≤ S := by rw [hc0, hs0]; exact ⟨Nat.zero_le _, Nat.zero_le _⟩
  clear hc0 hs0
  have ih := wlX0_fools (l := l) (e := e) (below := below) (D := D) (cA := cA) hX K res M S sl0 hM hS0 h a0 a1 hx hb hr hlocks hml hown hts K
  refine lv_iload_n hx hb dX0_fools_0 rfl (lv_at hl 1 rfl) ?_
  obtain ⟨x1, hx1, hf⟩ := dz_bo hf
  refine va_calli (va_runS (As := [.int a0]) (rest := []) ⟨hx, hb, hml, hown, hts⟩ (mtX0_isOdd l a0 K x1 hx1) (va_cwS 1 hts (lw_S q1621 q1622 q84 q1623) rfl rfl rfl (by decide +kernel) ⟨Nat.le_of_ble_eq_true rfl, Nat.le_of_ble_eq_true rfl⟩) ⟨fun a U g mk q => q, fun U hU hW => ⟨rfl, trivial⟩⟩ rfl rfl hl.1 rfl (lv_room (Nat.le_of_ble_eq_true rfl)) dX0_fools_1 ⟨hcM.1, hcM.2⟩) hS (fun q _ hq => hq.elim) (fun q hq => hq.elim) (fun r u t H1 locs ht hvm hw hB hz hk hS => dz_size (fun hz9 => ?_))
  replace hw := hw.symm; subst hw
  replace hH := zH_keep hH hcs hz hk hz9
  clear hB hk hz hvm ht hz9; generalize H1 = H at hH hS ⊢
  refine W.widen (k := cells) (n := slots) (Nat.le_refl _) (Nat.le_refl _) ?_
  refine lv_if_eq (tgt := 17) hx hb dX0_fools_4 (by decide) (fun c4 => ?_) (fun c4 => ?_)
  · have hf := dz_t c4 hf
    refine lv_iconst (v := (-1)) hx hb dX0_fools_17 (by decide) ?_
    obtain ⟨hM1, hS1⟩ : cells = M ∧ slots = S := by have hq := congrArg Prod.snd (Option.some.inj hf); rw [← hq] at hM hS0; have hM : s.heap.size + M = τ.1 := hM; have hS0 : sl0 + S = τ.2.1 := hS0; omega
    refine W.widen (k := M) (n := S) (Nat.le_of_eq hM1) (Nat.le_of_eq hS1) ?_
    exact W.iret (v := (-1)) hx hb hr (fun t ht hW => ⟨⟨(-1), τ, rfl, Option.some.inj hf, z_at ht hH⟩, hS.F ht⟩) hS.2.2 dX0_fools_18
  · have hf := dz_f c4 hf
    refine lv_iload_n hx hb dX0_fools_7 rfl (lv_at hl 2 rfl) ?_
    refine lv_i2l hx hb dX0_fools_8 (rfl : _ = Int32.toInt64 a1) ?_
    refine lv_lconst (v := 0) hx hb dX0_fools_9 rfl ?_
    refine lv_lconst (v := 1) hx hb dX0_fools_10 rfl ?_
    obtain ⟨x2, hx2, hf⟩ := dz_bo hf
    refine va_calli (va_runS (As := [.long (Int32.toInt64 a1), .long 0, .long 1]) (rest := []) ⟨hx, hb, hml, hown, hts⟩ (mtX0_isIn l (Int32.toInt64 a1) 0 1 K x2 hx2) (va_cwS 3 hts (lw_S q188 q189 q84 q190) rfl rfl rfl (by decide +kernel) ⟨Nat.le_of_ble_eq_true rfl, Nat.le_of_ble_eq_true rfl⟩) ⟨fun a U g mk q => q, fun U hU hW => ⟨rfl, trivial⟩⟩ rfl rfl hl.1 rfl (lv_room (Nat.le_of_ble_eq_true rfl)) dX0_fools_11 ⟨hcM.1, hcM.2⟩) hS (fun q _ hq => hq.elim) (fun q hq => hq.elim) (fun r u t H1 locs ht hvm hw hB hz hk hS => dz_size (fun hz9 => ?_))
    replace hw := hw.symm; subst hw
    replace hH := zH_keep hH hcs hz hk hz9
    clear hB hk hz hvm ht hz9; generalize H1 = H at hH hS ⊢
    refine W.widen (k := cells) (n := slots) (Nat.le_refl _) (Nat.le_refl _) ?_
    refine lv_if_ne (tgt := 19) hx hb dX0_fools_14 (by decide) (fun c14 => ?_) (fun c14 => ?_)
    · have hf := dz_f c14 hf
      refine lv_iconst (v := 0) hx hb dX0_fools_19 (by decide) ?_
      refine lv_istore_n (lv' := [(3, .int 0), (0, .ref h), (1, .int a0), (2, .int a1)]) hx hb dX0_fools_20 rfl hl (by decide) rfl (fun ls hl => ?_)
      refine lv_iconst (v := 0) hx hb dX0_fools_21 (by decide) ?_
      refine lv_istore (lv' := [(4, .int 0), (3, .int 0), (0, .ref h), (1, .int a0), (2, .int a1)]) hx hb dX0_fools_22 hl (by decide) rfl (fun ls hl => ?_)
      refine lv_iconst (v := 2) hx hb dX0_fools_24 (by decide) ?_
      refine lv_istore (lv' := [(5, .int 2), (4, .int 0), (3, .int 0), (0, .ref h), (1, .int a0), (2, .int a1)]) hx hb dX0_fools_25 hl (by decide) rfl (fun ls hl => ?_)
      exact ih.1 a0 a1 0 0 2 τ H locs cells slots hH hS hcs hss hcM ls (lv_sub hl [4, 5, 2, 1, 0] rfl) hf
    · have hf := dz_t c14 hf
      refine lv_iconst (v := (-1)) hx hb dX0_fools_17 (by decide) ?_
      obtain ⟨hM1, hS1⟩ : cells = M ∧ slots = S := by have hq := congrArg Prod.snd (Option.some.inj hf); rw [← hq] at hM hS0; have hM : s.heap.size + M = τ.1 := hM; have hS0 : sl0 + S = τ.2.1 := hS0; omega
      refine W.widen (k := M) (n := S) (Nat.le_of_eq hM1) (Nat.le_of_eq hS1) ?_
      exact W.iret (v := (-1)) hx hb hr (fun t ht hW => ⟨⟨(-1), τ, rfl, Option.some.inj hf, z_at ht hH⟩, hS.F ht⟩) hS.2.2 dX0_fools_18

noncomputable def lfX0_power (K : Nat) (ζ : pZ) : Nat → (pH → Option (Int32 × pH)) := Nat.rec (motive := fun _ => (pH → Option (Int32 × pH))) (fun _ => none) (fun _ G => (fun τ => some ((-1), τ)))
noncomputable def fnX0_power (K : Nat) (ζ : pZ) (h : Nat) (a0 : Int32) (a1 : Int32) (a2 : Int32) (τ : pH) : Option (Int32 × pH) := if a0 < (0 : Int32) then ((lfX0_power K ζ K) τ) else (if a1 < (0 : Int32) then ((lfX0_power K ζ K) τ) else (if (1 : Int32) ≤ a2 then (zcl τ (fnX0_powerOf K ζ (Int32.toInt64 a0) (Int32.toInt64 a1) (Int32.toInt64 a2) τ) fun x1 s2 => dz_l (Int64.toInt32 x1) fun x3 => some (x3, s2)) else ((lfX0_power K ζ K) τ)))
set_option maxHeartbeats 4000000 in
set_option maxRecDepth 100000 in
theorem wlX0_power {p : Program} {l : Launch} {e : Env} {s : State} {m : MethodId} {below : List Frame} {meth : Method} {c : Code} {D : va_G} {cA : Nat → ClassId} {ζ : pZ} (hX : zX D cA ζ s) (K : Nat) (res : (Int32 × pH)) (M S sl0 : Nat) (hM : s.heap.size + M = res.2.1) (hS0 : sl0 + S = res.2.2.1) (h : Nat) (a0 : Int32) (a1 : Int32) (a2 : Int32) (hx : p.tables.exec = Jvm.exec) (hb : c.code = cX0_power) (hr : meth.sig.returnType = some .int) (hlocks : meth.locks = false) (hml : c.maxLocals = 4) (hown : s.vm.findClass RX0 = some m.cls) (hts : ∀ w ∈ lw_all, w.before ([.ref h, .int a0, .int a1, .int a2] : List Value).toArray s = true) : ∀ k : Nat, (∀  (τ : pH) (H : Heap) (locs : List Loc) (cells slots : Nat), zH D cA ζ τ H → va_S (zA ζ) s.heap H locs → s.heap.size + cells = τ.1 → sl0 + slots = τ.2.1 → cells ≤ M ∧ slots ≤ S → ∀ (ls : Array Slot), lv_has ls 4 [] → (lfX0_power K ζ k) τ = some res → W p l e (headSpec (ws_ yX0_power cX0_power 4 (some .int)) ({ frames := 4, cells := M, slots := S, locals := 89 })).room s m ([.ref h, .int a0, .int a1, .int a2] : List Value).toArray below meth c H locs cells slots (MQ below (zQi D cA ζ res) ([.ref h, .int a0, .int a1, .int a2] : List Value).toArray s M S (zA ζ)) (F0 m 13 ls [])) := by
  intro k
  induction k with
  | zero =>
    exact fun _ _ _ _ _ _ _ _ _ _ _ _ hf => (by cases hf)
  | succ k ih =>
    · intro τ H locs cells slots hH hS hcs hss hcM ls hl hf
      have hf : (some ((-1), τ) : Option (Int32 × pH)) = some res := hf
      refine lv_iconst (v := (-1)) hx hb dX0_power_13 (by decide) ?_
      refine lv_goto (tgt := 27) hx hb dX0_power_14 (by decide) ?_
      obtain ⟨hM1, hS1⟩ : cells = M ∧ slots = S := by have hq := congrArg Prod.snd (Option.some.inj hf); rw [← hq] at hM hS0; have hM : s.heap.size + M = τ.1 := hM; have hS0 : sl0 + S = τ.2.1 := hS0; omega
      refine W.widen (k := M) (n := S) (Nat.le_of_eq hM1) (Nat.le_of_eq hS1) ?_
      exact W.iret (v := (-1)) hx hb hr (fun t ht hW => ⟨⟨(-1), τ, rfl, Option.some.inj hf, z_at ht hH⟩, hS.F ht⟩) hS.2.2 dX0_power_27
set_option maxHeartbeats 4000000 in
set_option maxRecDepth 100000 in
theorem mtX0_power (l : Launch) (D : va_G) (cA : Nat → ClassId) (ζ : pZ) (τ : pH) (h : Nat) (a0 : Int32) (a1 : Int32) (a2 : Int32) (K : Nat) (res : (Int32 × pH)) (hf : fnX0_power K ζ h a0 a1 a2 τ = some res) (M S : Nat) (hM : τ.1 + M = res.2.1) (hS0 : τ.2.1 + S = res.2.2.1) : Met l yX0_power (ws_ yX0_power cX0_power 4 (some .int)) ({ frames := 4, cells := M, slots := S, locals := 89 }) (zPc D cA ζ τ [.ref h, .int a0, .int a1, .int a2]) (zQi D cA ζ res) M S (zA ζ) := by
  refine Met.ofW (cc := cX0_power) (maxL := 4) (ret := some .int) (by decide +kernel) rfl ?_
  intro p e s m args below meth c s₁ B hml hv
  obtain ⟨rfl, hX, hH⟩ := hv
  have hx := B.exec
  have hb := B.bytes
  have hr := B.returns
  have hts := atoms_spec (ws := ws_ yX0_power cX0_power 4 (some .int)) B.pre
  have hts : ∀ w ∈ lw_all, w.before _ s = true := fun w h => hts w (List.mem_cons_of_mem _ h)
  have hown : s.vm.findClass RX0 = some m.cls := findClass_of_methodNamed B.named
  have hlocks := B.notSynchronized
  have hM : s.heap.size + M = res.2.1 := by rw [hH.1]; exact hM
  have hcs : s.heap.size + 0 = τ.1 := hH.1
  have hss : τ.2.1 + 0 = τ.2.1 := rfl
  generalize hsl0 : τ.2.1 = sl0 at hS0 hss
  have hss : sl0 + 0 = τ.2.1 := by rw [hsl0]; rfl
  have hS : va_S (zA ζ) s.heap s.heap [] := va_S.rf
  generalize hHe : s.heap = H at hH hS ⊢
  have hS : va_S (zA ζ) s.heap H [] := by rw [hHe]; exact hS
  generalize ([] : List Loc) = locs at hS ⊢
  have hl := lv_entry ([.ref h, .int a0, .int a1, .int a2]) (n := 4) (Nat.le_of_ble_eq_true rfl)
  rw [lg_entry_eq]
  generalize (lg_sl ([.ref h, .int a0, .int a1, .int a2]) ++ List.replicate (4 - (lg_sl ([.ref h, .int a0, .int a1, .int a2])).length) Slot.unset).toArray = ls at hl ⊢
  have hl : lv_has ls 4 [(0, .ref h), (1, .int a0), (2, .int a1), (3, .int a2)] := hl
  have hf : (if a0 < (0 : Int32) then ((lfX0_power K ζ K) τ) else (if a1 < (0 : Int32) then ((lfX0_power K ζ K) τ) else (if (1 : Int32) ≤ a2 then (zcl τ (fnX0_powerOf K ζ (Int32.toInt64 a0) (Int32.toInt64 a1) (Int32.toInt64 a2) τ) fun x1 s2 => dz_l (Int64.toInt32 x1) fun x3 => some (x3, s2)) else ((lfX0_power K ζ K) τ))) : Option (Int32 × pH)) = some res := hf
  refine z_gen (fun cells slots hc0 hs0 => ?_)
  have hcs : s.heap.size + cells = τ.1 := by rw [hc0]; exact hcs
  have hss : sl0 + slots = τ.2.1 := by rw [hs0]; exact hss
  have hcM : cells ≤ M ∧ slots ≤ S := by rw [hc0, hs0]; exact ⟨Nat.zero_le _, Nat.zero_le _⟩
  clear hc0 hs0
  have ih := wlX0_power (l := l) (e := e) (below := below) (D := D) (cA := cA) hX K res M S sl0 hM hS0 h a0 a1 a2 hx hb hr hlocks hml hown hts K
  refine lv_iload_n hx hb dX0_power_0 rfl (lv_at hl 1 rfl) ?_
  refine lv_if_lt (tgt := 13) hx hb dX0_power_1 (by decide) (fun c1 => ?_) (fun c1 => ?_)
  · have hf := dz_t c1 hf
    exact ih τ H locs cells slots hH hS hcs hss hcM ls (lv_sub hl [] rfl) hf
  · have hf := dz_f c1 hf
    refine lv_iload_n hx hb dX0_power_4 rfl (lv_at hl 2 rfl) ?_
    refine lv_if_lt (tgt := 13) hx hb dX0_power_5 (by decide) (fun c5 => ?_) (fun c5 => ?_)
    · have hf := dz_t c5 hf
      exact ih τ H locs cells slots hH hS hcs hss hcM ls (lv_sub hl [] rfl) hf
    · have hf := dz_f c5 hf
      refine lv_iload_n hx hb dX0_power_8 rfl (lv_at hl 3 rfl) ?_
      refine lv_iconst (v := 1) hx hb dX0_power_9 (by decide) ?_
      refine lv_icmp_ge (tgt := 17) hx hb dX0_power_10 (by decide) (fun c10 => ?_) (fun c10 => ?_)
      · have hf := dz_t c10 hf
        refine lv_iload_n hx hb dX0_power_17 rfl (lv_at hl 1 rfl) ?_
        refine lv_i2l hx hb dX0_power_18 (rfl : _ = Int32.toInt64 a0) ?_
        refine lv_iload_n hx hb dX0_power_19 rfl (lv_at hl 2 rfl) ?_
        refine lv_i2l hx hb dX0_power_20 (rfl : _ = Int32.toInt64 a1) ?_
        refine lv_iload_n hx hb dX0_power_21 rfl (lv_at hl 3 rfl) ?_
        refine lv_i2l hx hb dX0_power_22 (rfl : _ = Int32.toInt64 a2) ?_
        obtain ⟨x1, s2, hx1, hle, hck, hf⟩ := zcl_o hf
        have hc1 : cells + (s2.1 - τ.1) ≤ M := by omega
        have hs1 : slots + (s2.2.1 - τ.2.1) ≤ S := by omega
        refine va_calll (va_runS (As := [.long (Int32.toInt64 a0), .long (Int32.toInt64 a1), .long (Int32.toInt64 a2)]) (rest := []) ⟨hx, hb, hml, hown, hts⟩ (mtX0_powerOf l D cA ζ τ (Int32.toInt64 a0) (Int32.toInt64 a1) (Int32.toInt64 a2) K (x1, s2) hx1 (s2.1 - τ.1) (s2.2.1 - τ.2.1) (Nat.add_sub_cancel' hle.1) (Nat.add_sub_cancel' hle.2)) (va_cwS 3 hts (lw_S q1627 q368 q84 q369) rfl rfl rfl (by decide +kernel) ⟨Nat.le_of_ble_eq_true rfl, Nat.le_of_ble_eq_true rfl⟩) (z_preS hX hS hH) rfl rfl hl.1 rfl (lv_room (Nat.le_of_ble_eq_true rfl)) dX0_power_23 ⟨hc1, hs1⟩) hS (fun q _ hq => hq) (fun q hq => hq) (fun r u t H1 locs ht hvm hw hB hz hk hS => ?_)
        obtain ⟨hw1, hw2⟩ := Prod.mk.inj hw.symm; subst hw1; subst hw2
        have hH : zH D cA ζ s2 H1 := z_at ht.symm hB
        have hcs : s.heap.size + (cells + (s2.1 - τ.1)) = s2.1 := by omega
        have hss : sl0 + (slots + (s2.2.1 - τ.2.1)) = s2.2.1 := by omega
        replace hcM := And.intro hc1 hs1
        generalize cells + (s2.1 - τ.1) = cells at hcs hcM ⊢; generalize slots + (s2.2.1 - τ.2.1) = slots at hss hcM ⊢
        clear hB hk hz hvm ht hle hck hc1 hs1; generalize H1 = H at hH hS ⊢
        refine lv_l2i hx hb dX0_power_26 (rfl : _ = Int64.toInt32 x1) ?_
        refine lv_topi (fun x3 e_x3 => ?_)
        have hf := dz_ls e_x3 hf
        obtain ⟨hM1, hS1⟩ : cells = M ∧ slots = S := by have hq := congrArg Prod.snd (Option.some.inj hf); rw [← hq] at hM hS0; have hM : s.heap.size + M = s2.1 := hM; have hS0 : sl0 + S = s2.2.1 := hS0; omega
        refine W.widen (k := M) (n := S) (Nat.le_of_eq hM1) (Nat.le_of_eq hS1) ?_
        exact W.iret (v := x3) hx hb hr (fun t ht hW => ⟨⟨x3, s2, rfl, Option.some.inj hf, z_at ht hH⟩, hS.F ht⟩) hS.2.2 dX0_power_27
      · have hf := dz_f c10 hf
        exact ih τ H locs cells slots hH hS hcs hss hcM ls (lv_sub hl [] rfl) hf

noncomputable def lfX0_unitsOf (K : Nat) (ζ : pZ) : Nat → (Int64 → Nat → pH → Option (Int64 × pH)) := Nat.rec (motive := fun _ => (Int64 → Nat → pH → Option (Int64 × pH))) (fun _ _ _ => none) (fun _ G => (fun v2 v4 τ => dz_b (zob ζ τ v4 2) fun f3 => zcl τ (fnX2_hasNext K ζ v4 τ) fun x1 s2 => if x1 = (0 : Int32) then (some (v2, s2)) else (dz_b (zob ζ s2 v4 2) fun f6 => zcl s2 (fnX2_next K ζ v4 s2) fun x4 s5 => dz_b (zob ζ s5 x4 11) fun f7 => dz_b (zob ζ s5 x4 11) fun f8 => dz_b (zvl (f8[0]?)) fun x9 => if ¬ x9 = 0 then (dz_l (v2 / x9) fun x11 => dz_b (zob ζ s5 x4 11) fun f12 => dz_b (zvl (f12[0]?)) fun x13 => dz_l (x11 * (x13 - 1)) fun x14 => G x14 v4 s5) else none)))
noncomputable def fnX0_unitsOf (K : Nat) (ζ : pZ) (a0 : Int64) (τ : pH) : Option (Int64 × pH) := zcl τ (fnX0_factors K ζ a0 τ) fun x1 s2 => dz_b (zob ζ s2 x1 10) fun f5 => zcl s2 (fnX8_iterator K ζ x1 s2) fun x3 s4 => (lfX0_unitsOf K ζ K) a0 x3 s4
set_option maxHeartbeats 4000000 in
set_option maxRecDepth 100000 in
theorem wlX0_unitsOf {p : Program} {l : Launch} {e : Env} {s : State} {m : MethodId} {below : List Frame} {meth : Method} {c : Code} {D : va_G} {cA : Nat → ClassId} {ζ : pZ} (hX : zX D cA ζ s) (K : Nat) (res : (Int64 × pH)) (M S sl0 : Nat) (hM : s.heap.size + M = res.2.1) (hS0 : sl0 + S = res.2.2.1) (a0 : Int64) (hx : p.tables.exec = Jvm.exec) (hb : c.code = cX0_unitsOf) (hr : meth.sig.returnType = some .long) (hlocks : meth.locks = false) (hml : c.maxLocals = 6) (hown : s.vm.findClass RX0 = some m.cls) (hts : ∀ w ∈ lw_all, w.before ([.long a0] : List Value).toArray s = true) : ∀ k : Nat, (∀ (v2 : Int64) (v4 : Nat) (τ : pH) (H : Heap) (locs : List Loc) (cells slots : Nat), zH D cA ζ τ H → va_S (zA ζ) s.heap H locs → s.heap.size + cells = τ.1 → sl0 + slots = τ.2.1 → cells ≤ M ∧ slots ≤ S → ∀ (ls : Array Slot), lv_has ls 6 [(2, .long v2), (4, .ref v4)] → (lfX0_unitsOf K ζ k) v2 v4 τ = some res → W p l e (headSpec (ws_ yX0_unitsOf cX0_unitsOf 6 (some .long)) ({ frames := 3, cells := M, slots := S, locals := 71 })).room s m ([.long a0] : List Value).toArray below meth c H locs cells slots (MQ below (zQl D cA ζ res) ([.long a0] : List Value).toArray s M S (zA ζ)) (F0 m 11 ls [])) := by
  intro k
  induction k with
  | zero =>
    exact fun _ _ _ _ _ _ _ _ _ _ _ _ _ _ hf => (by cases hf)
  | succ k ih =>
    · intro v2 v4 τ H locs cells slots hH hS hcs hss hcM ls hl hf
      have hf : (dz_b (zob ζ τ v4 2) fun f3 => zcl τ (fnX2_hasNext K ζ v4 τ) fun x1 s2 => if x1 = (0 : Int32) then (some (v2, s2)) else (dz_b (zob ζ s2 v4 2) fun f6 => zcl s2 (fnX2_next K ζ v4 s2) fun x4 s5 => dz_b (zob ζ s5 x4 11) fun f7 => dz_b (zob ζ s5 x4 11) fun f8 => dz_b (zvl (f8[0]?)) fun x9 => if ¬ x9 = 0 then (dz_l (v2 / x9) fun x11 => dz_b (zob ζ s5 x4 11) fun f12 => dz_b (zvl (f12[0]?)) fun x13 => dz_l (x11 * (x13 - 1)) fun x14 => (lfX0_unitsOf K ζ k) x14 v4 s5) else none) : Option (Int64 × pH)) = some res := hf
      refine lv_aload hx hb dX0_unitsOf_11 (lv_at hl 1 rfl) ?_
      obtain ⟨f3, hf3, hf⟩ := dz_bo hf
      obtain ⟨x1, s2, hx1, hle, hck, hf⟩ := zcl_o hf
      have hc1 : cells + (s2.1 - τ.1) ≤ M := by omega
      have hs1 : slots + (s2.2.1 - τ.2.1) ≤ S := by omega
      refine va_callFi (va_runF (hX.K.1 2 _ rfl).2 (As := []) (rest := []) ⟨hx, hb, hml, hown, hts⟩ (mtX2_hasNext l D cA ζ τ v4 K (x1, s2) hx1 (s2.1 - τ.1) (s2.2.1 - τ.2.1) (Nat.add_sub_cancel' hle.1) (Nat.add_sub_cancel' hle.2)) (va_cwF 0 hts (zF_in q782 q267 q269 q91 q271) rfl rfl rfl (hX.F 0 rfl) (by decide +kernel) ⟨Nat.le_of_ble_eq_true rfl, Nat.le_of_ble_eq_true rfl⟩) (z_preV hX hS hH (zob_o hf3) rfl) rfl rfl hl.1 rfl (lv_room (Nat.le_of_ble_eq_true rfl)) dX0_unitsOf_13 ⟨hc1, hs1⟩) hS (fun q _ hq => hq) (fun q hq => hq) (fun r u t H1 locs ht hvm hw hB hz hk hS => ?_)
      obtain ⟨hw1, hw2⟩ := Prod.mk.inj hw.symm; subst hw1; subst hw2
      have hH : zH D cA ζ s2 H1 := z_at ht.symm hB
      have hcs : s.heap.size + (cells + (s2.1 - τ.1)) = s2.1 := by omega
      have hss : sl0 + (slots + (s2.2.1 - τ.2.1)) = s2.2.1 := by omega
      replace hcM := And.intro hc1 hs1
      generalize cells + (s2.1 - τ.1) = cells at hcs hcM ⊢; generalize slots + (s2.2.1 - τ.2.1) = slots at hss hcM ⊢
      clear hB hk hz hvm ht hle hck hc1 hs1; generalize H1 = H at hH hS ⊢
      refine lv_if_eq (tgt := 52) hx hb dX0_unitsOf_18 (by decide) (fun c18 => ?_) (fun c18 => ?_)
      · have hf := dz_t c18 hf
        refine lv_lload_n hx hb dX0_unitsOf_52 rfl (lv_at hl 0 rfl) ?_
        obtain ⟨hM1, hS1⟩ : cells = M ∧ slots = S := by have hq := congrArg Prod.snd (Option.some.inj hf); rw [← hq] at hM hS0; have hM : s.heap.size + M = s2.1 := hM; have hS0 : sl0 + S = s2.2.1 := hS0; omega
        refine W.widen (k := M) (n := S) (Nat.le_of_eq hM1) (Nat.le_of_eq hS1) ?_
        exact W.lret (v := v2) hx hb hr (fun t ht hW => ⟨⟨v2, s2, rfl, Option.some.inj hf, z_at ht hH⟩, hS.F ht⟩) hS.2.2 dX0_unitsOf_53
      · have hf := dz_f c18 hf
        refine lv_aload hx hb dX0_unitsOf_21 (lv_at hl 1 rfl) ?_
        obtain ⟨f6, hf6, hf⟩ := dz_bo hf
        obtain ⟨x4, s5, hx4, hle, hck, hf⟩ := zcl_o hf
        have hc1 : cells + (s5.1 - s2.1) ≤ M := by omega
        have hs1 : slots + (s5.2.1 - s2.2.1) ≤ S := by omega
        refine va_callFr (va_runF (hX.K.1 2 _ rfl).2 (As := []) (rest := []) ⟨hx, hb, hml, hown, hts⟩ (mtX2_next l D cA ζ s2 v4 K (x4, s5) hx4 (s5.1 - s2.1) (s5.2.1 - s2.2.1) (Nat.add_sub_cancel' hle.1) (Nat.add_sub_cancel' hle.2)) (va_cwF 0 hts (zF_in q784 q282 q284 q91 q286) rfl rfl rfl (hX.F 1 rfl) (by decide +kernel) ⟨Nat.le_of_ble_eq_true rfl, Nat.le_of_ble_eq_true rfl⟩) (z_preV hX hS hH (zob_o hf6) rfl) rfl rfl hl.1 rfl (lv_room (Nat.le_of_ble_eq_true rfl)) dX0_unitsOf_23 ⟨hc1, hs1⟩) hS (fun q _ hq => hq) (fun q hq => hq) (fun u r t H1 locs ht hvm hw hB hz hk hS => ?_)
        obtain ⟨hw, hB⟩ := hB
        obtain ⟨hw1, hw2⟩ := Prod.mk.inj hw.symm; subst hw1; subst hw2
        have hH : zH D cA ζ s5 H1 := z_at ht.symm hB
        have hcs : s.heap.size + (cells + (s5.1 - s2.1)) = s5.1 := by omega
        have hss : sl0 + (slots + (s5.2.1 - s2.2.1)) = s5.2.1 := by omega
        replace hcM := And.intro hc1 hs1
        generalize cells + (s5.1 - s2.1) = cells at hcs hcM ⊢; generalize slots + (s5.2.1 - s2.2.1) = slots at hss hcM ⊢
        clear hB hk hz hvm ht hle hck hc1 hs1; generalize H1 = H at hH hS ⊢
        obtain ⟨f7, hf7, hf⟩ := dz_bo hf
        refine va_castS (nm := RX13) hx hb hown (hts _ q677) (hX.K.1 11 _ rfl).2 (va_recv hX.K (zrd_P hX hS hH (zob_o hf7)) (ci := 11) (q0 := 0) rfl rfl) dX0_unitsOf_28 ?_
        refine lv_astore (lv' := [(5, .ref x4), (2, .long v2), (4, .ref v4)]) hx hb dX0_unitsOf_31 hl (by decide) rfl (fun ls hl => ?_)
        refine lv_lload_n hx hb dX0_unitsOf_33 rfl (lv_at hl 1 rfl) ?_
        refine lv_aload hx hb dX0_unitsOf_34 (lv_at hl 0 rfl) ?_
        obtain ⟨f8, hf8, hf⟩ := dz_bo hf
        obtain ⟨x9, hx9, hf⟩ := dz_bo hf
        refine va_get (C := RX13) (T := TX13) (N := 3) hx hb hts in_X13 hown hX.K (zrd_P hX hS hH (zob_o hf8)) 0 rfl rfl 0 (by decide) (hts _ q686) (fun _ hq => hq) (zvl_o hx9) dX0_unitsOf_36 ?_
        obtain ⟨g10, hf⟩ := dz_go hf
        refine lv_ldiv hx hb dX0_unitsOf_39 g10 ?_
        refine lv_topl (fun x11 e_x11 => ?_)
        have hf := dz_ls e_x11 hf
        refine lv_aload hx hb dX0_unitsOf_40 (lv_at hl 0 rfl) ?_
        obtain ⟨f12, hf12, hf⟩ := dz_bo hf
        obtain ⟨x13, hx13, hf⟩ := dz_bo hf
        refine va_get (C := RX13) (T := TX13) (N := 3) hx hb hts in_X13 hown hX.K (zrd_P hX hS hH (zob_o hf12)) 0 rfl rfl 0 (by decide) (hts _ q686) (fun _ hq => hq) (zvl_o hx13) dX0_unitsOf_42 ?_
        refine lv_lconst (v := 1) hx hb dX0_unitsOf_45 rfl ?_
        refine lv_lsub hx hb dX0_unitsOf_46 ?_
        refine lv_lmul hx hb dX0_unitsOf_47 ?_
        refine lv_topl (fun x14 e_x14 => ?_)
        have hf := dz_ls e_x14 hf
        refine lv_lstore_n (lv' := [(2, .long x14), (5, .ref x4), (4, .ref v4)]) hx hb dX0_unitsOf_48 rfl hl (by decide) rfl (fun ls hl => ?_)
        refine lv_goto (tgt := 11) hx hb dX0_unitsOf_49 (by decide) ?_
        exact ih x14 v4 s5 H locs cells slots hH hS hcs hss hcM ls (lv_sub hl [0, 2] rfl) hf
set_option maxHeartbeats 4000000 in
set_option maxRecDepth 100000 in
theorem mtX0_unitsOf (l : Launch) (D : va_G) (cA : Nat → ClassId) (ζ : pZ) (τ : pH) (a0 : Int64) (K : Nat) (res : (Int64 × pH)) (hf : fnX0_unitsOf K ζ a0 τ = some res) (M S : Nat) (hM : τ.1 + M = res.2.1) (hS0 : τ.2.1 + S = res.2.2.1) : Met l yX0_unitsOf (ws_ yX0_unitsOf cX0_unitsOf 6 (some .long)) ({ frames := 3, cells := M, slots := S, locals := 71 }) (zPc D cA ζ τ [.long a0]) (zQl D cA ζ res) M S (zA ζ) := by
  refine Met.ofW (cc := cX0_unitsOf) (maxL := 6) (ret := some .long) (by decide +kernel) rfl ?_
  intro p e s m args below meth c s₁ B hml hv
  obtain ⟨rfl, hX, hH⟩ := hv
  have hx := B.exec
  have hb := B.bytes
  have hr := B.returns
  have hts := atoms_spec (ws := ws_ yX0_unitsOf cX0_unitsOf 6 (some .long)) B.pre
  have hts : ∀ w ∈ lw_all, w.before _ s = true := fun w h => hts w (List.mem_cons_of_mem _ h)
  have hown : s.vm.findClass RX0 = some m.cls := findClass_of_methodNamed B.named
  have hlocks := B.notSynchronized
  have hM : s.heap.size + M = res.2.1 := by rw [hH.1]; exact hM
  have hcs : s.heap.size + 0 = τ.1 := hH.1
  have hss : τ.2.1 + 0 = τ.2.1 := rfl
  generalize hsl0 : τ.2.1 = sl0 at hS0 hss
  have hss : sl0 + 0 = τ.2.1 := by rw [hsl0]; rfl
  have hS : va_S (zA ζ) s.heap s.heap [] := va_S.rf
  generalize hHe : s.heap = H at hH hS ⊢
  have hS : va_S (zA ζ) s.heap H [] := by rw [hHe]; exact hS
  generalize ([] : List Loc) = locs at hS ⊢
  have hl := lv_entry ([.long a0]) (n := 6) (Nat.le_of_ble_eq_true rfl)
  rw [lg_entry_eq]
  generalize (lg_sl ([.long a0]) ++ List.replicate (6 - (lg_sl ([.long a0])).length) Slot.unset).toArray = ls at hl ⊢
  have hl : lv_has ls 6 [(0, .long a0)] := hl
  have hf : (zcl τ (fnX0_factors K ζ a0 τ) fun x1 s2 => dz_b (zob ζ s2 x1 10) fun f5 => zcl s2 (fnX8_iterator K ζ x1 s2) fun x3 s4 => (lfX0_unitsOf K ζ K) a0 x3 s4 : Option (Int64 × pH)) = some res := hf
  refine z_gen (fun cells slots hc0 hs0 => ?_)
  have hcs : s.heap.size + cells = τ.1 := by rw [hc0]; exact hcs
  have hss : sl0 + slots = τ.2.1 := by rw [hs0]; exact hss
  have hcM : cells ≤ M ∧ slots ≤ S := by rw [hc0, hs0]; exact ⟨Nat.zero_le _, Nat.zero_le _⟩
  clear hc0 hs0
  have ih := wlX0_unitsOf (l := l) (e := e) (below := below) (D := D) (cA := cA) hX K res M S sl0 hM hS0 a0 hx hb hr hlocks hml hown hts K
  refine lv_lload_n hx hb dX0_unitsOf_0 rfl (lv_at hl 0 rfl) ?_
  refine lv_lstore_n (lv' := [(2, .long a0), (0, .long a0)]) hx hb dX0_unitsOf_1 rfl hl (by decide) rfl (fun ls hl => ?_)
  refine lv_lload_n hx hb dX0_unitsOf_2 rfl (lv_at hl 1 rfl) ?_
  obtain ⟨x1, s2, hx1, hle, hck, hf⟩ := zcl_o hf
  have hc1 : cells + (s2.1 - τ.1) ≤ M := by omega
  have hs1 : slots + (s2.2.1 - τ.2.1) ≤ S := by omega
  refine va_callr (va_runS (As := [.long a0]) (rest := []) ⟨hx, hb, hml, hown, hts⟩ (mtX0_factors l D cA ζ τ a0 K (x1, s2) hx1 (s2.1 - τ.1) (s2.2.1 - τ.2.1) (Nat.add_sub_cancel' hle.1) (Nat.add_sub_cancel' hle.2)) (va_cwS 1 hts (lw_S q1576 q673 q84 q674) rfl rfl rfl (by decide +kernel) ⟨Nat.le_of_ble_eq_true rfl, Nat.le_of_ble_eq_true rfl⟩) (z_preS hX hS hH) rfl rfl hl.1 rfl (lv_room (Nat.le_of_ble_eq_true rfl)) dX0_unitsOf_3 ⟨hc1, hs1⟩) hS (fun q _ hq => hq) (fun q hq => hq) (fun u r t H1 locs ht hvm hw hB hz hk hS => ?_)
  obtain ⟨hw, hB⟩ := hB
  obtain ⟨hw1, hw2⟩ := Prod.mk.inj hw.symm; subst hw1; subst hw2
  have hH : zH D cA ζ s2 H1 := z_at ht.symm hB
  have hcs : s.heap.size + (cells + (s2.1 - τ.1)) = s2.1 := by omega
  have hss : sl0 + (slots + (s2.2.1 - τ.2.1)) = s2.2.1 := by omega
  replace hcM := And.intro hc1 hs1
  generalize cells + (s2.1 - τ.1) = cells at hcs hcM ⊢; generalize slots + (s2.2.1 - τ.2.1) = slots at hss hcM ⊢
  clear hB hk hz hvm ht hle hck hc1 hs1; generalize H1 = H at hH hS ⊢
  obtain ⟨f5, hf5, hf⟩ := dz_bo hf
  obtain ⟨x3, s4, hx3, hle, hck, hf⟩ := zcl_o hf
  have hc1 : cells + (s4.1 - s2.1) ≤ M := by omega
  have hs1 : slots + (s4.2.1 - s2.2.1) ≤ S := by omega
  refine va_callr (va_runV (As := []) (rest := []) ⟨hx, hb, hml, hown, hts⟩ (mtX8_iterator l D cA ζ s2 x1 K (x3, s4) hx3 (s4.1 - s2.1) (s4.2.1 - s2.2.1) (Nat.add_sub_cancel' hle.1) (Nat.add_sub_cancel' hle.2)) (cwV 0 hts (lw_V q780 q246 q247 q98 q248) rfl rfl rfl (by decide +kernel) ⟨Nat.le_of_ble_eq_true rfl, Nat.le_of_ble_eq_true rfl⟩) (z_preV hX hS hH (zob_o hf5) rfl) rfl rfl hl.1 rfl (lv_room (Nat.le_of_ble_eq_true rfl)) dX0_unitsOf_6 ⟨hc1, hs1⟩) hS (fun q _ hq => hq) (fun q hq => hq) (fun u r t H1 locs ht hvm hw hB hz hk hS => ?_)
  obtain ⟨hw, hB⟩ := hB
  obtain ⟨hw1, hw2⟩ := Prod.mk.inj hw.symm; subst hw1; subst hw2
  have hH : zH D cA ζ s4 H1 := z_at ht.symm hB
  have hcs : s.heap.size + (cells + (s4.1 - s2.1)) = s4.1 := by omega
  have hss : sl0 + (slots + (s4.2.1 - s2.2.1)) = s4.2.1 := by omega
  replace hcM := And.intro hc1 hs1
  generalize cells + (s4.1 - s2.1) = cells at hcs hcM ⊢; generalize slots + (s4.2.1 - s2.2.1) = slots at hss hcM ⊢
  clear hB hk hz hvm ht hle hck hc1 hs1; generalize H1 = H at hH hS ⊢
  refine lv_astore (lv' := [(4, .ref x3), (2, .long a0), (0, .long a0)]) hx hb dX0_unitsOf_9 hl (by decide) rfl (fun ls hl => ?_)
  exact ih a0 x3 s4 H locs cells slots hH hS hcs hss hcM ls (lv_sub hl [1, 0] rfl) hf

noncomputable def lfX0_order (K : Nat) (ζ : pZ) : Nat → (Int32 → Int32 → Int64 → Nat → pH → Option (Int32 × pH)) × (Int32 → Int32 → Int64 → Nat → Nat → pH → Option (Int32 × pH)) × (Int32 → Int32 → Int64 → Nat → pH → Option (Int32 × pH)) := Nat.rec (motive := fun _ => (Int32 → Int32 → Int64 → Nat → pH → Option (Int32 × pH)) × (Int32 → Int32 → Int64 → Nat → Nat → pH → Option (Int32 × pH)) × (Int32 → Int32 → Int64 → Nat → pH → Option (Int32 × pH))) ((fun _ _ _ _ _ => none), (fun _ _ _ _ _ _ => none), (fun _ _ _ _ _ => none)) (fun _ G => ((fun v1 v2 v3 v5 τ => dz_b (zob ζ τ v5 2) fun f3 => zcl τ (fnX2_hasNext K ζ v5 τ) fun x1 s2 => if x1 = (0 : Int32) then (dz_l (Int64.toInt32 v3) fun x4 => some (x4, s2)) else (dz_b (zob ζ s2 v5 2) fun f7 => zcl s2 (fnX2_next K ζ v5 s2) fun x5 s6 => dz_b (zob ζ s6 x5 11) fun f8 => G.2.1 v1 v2 v3 v5 x5 s6)), (fun v1 v2 v3 v5 v6 τ => dz_b (zob ζ τ v6 11) fun f1 => dz_b (zvl (f1[0]?)) fun x2 => if ¬ x2 = 0 then (dz_l (v3 - v3 / x2 * x2) fun x4 => if x4 = (0 : Int64) then (dz_b (zob ζ τ v6 11) fun f5 => dz_b (zvl (f5[0]?)) fun x6 => if ¬ x6 = 0 then (dz_l (v3 / x6) fun x8 => zcl τ (fnX0_powerOf K ζ (Int32.toInt64 v1) x8 (Int32.toInt64 v2) τ) fun x9 s10 => if x9 = (1 : Int64) then (dz_b (zob ζ s10 v6 11) fun f11 => dz_b (zvl (f11[0]?)) fun x12 => if ¬ x12 = 0 then (dz_l (v3 / x12) fun x14 => G.2.1 v1 v2 x14 v5 v6 s10) else none) else (G.2.2 v1 v2 v3 v5 s10)) else none) else (G.2.2 v1 v2 v3 v5 τ)) else none), (fun v1 v2 v3 v5 τ => G.1 v1 v2 v3 v5 τ)))
noncomputable def fnX0_order (K : Nat) (ζ : pZ) (h : Nat) (a0 : Int32) (a1 : Int32) (τ : pH) : Option (Int32 × pH) := if a0 < (0 : Int32) then (some ((-1), τ)) else (dz_b (fnX0_isIn K (Int32.toInt64 a1) 2 1000000) fun x1 => if x1 = (0 : Int32) then (some ((-1), τ)) else (dz_b (fnX0_common 100 (Int32.toInt64 a0) (Int32.toInt64 a1)) fun x2 => if x2 = (1 : Int64) then (zcl τ (fnX0_unitsOf K ζ (Int32.toInt64 a1) τ) fun x3 s4 => zcl s4 (fnX0_factors K ζ x3 s4) fun x5 s6 => dz_b (zob ζ s6 x5 10) fun f9 => zcl s6 (fnX8_iterator K ζ x5 s6) fun x7 s8 => (lfX0_order K ζ K).1 a0 a1 x3 x7 s8) else (some ((-2), τ))))
set_option maxHeartbeats 4000000 in
set_option maxRecDepth 100000 in
theorem wlX0_order {p : Program} {l : Launch} {e : Env} {s : State} {m : MethodId} {below : List Frame} {meth : Method} {c : Code} {D : va_G} {cA : Nat → ClassId} {ζ : pZ} (hX : zX D cA ζ s) (K : Nat) (res : (Int32 × pH)) (M S sl0 : Nat) (hM : s.heap.size + M = res.2.1) (hS0 : sl0 + S = res.2.2.1) (h : Nat) (a0 : Int32) (a1 : Int32) (hx : p.tables.exec = Jvm.exec) (hb : c.code = cX0_order) (hr : meth.sig.returnType = some .int) (hlocks : meth.locks = false) (hml : c.maxLocals = 7) (hown : s.vm.findClass RX0 = some m.cls) (hts : ∀ w ∈ lw_all, w.before ([.ref h, .int a0, .int a1] : List Value).toArray s = true) : ∀ k : Nat, (∀ (v1 : Int32) (v2 : Int32) (v3 : Int64) (v5 : Nat) (τ : pH) (H : Heap) (locs : List Loc) (cells slots : Nat), zH D cA ζ τ H → va_S (zA ζ) s.heap H locs → s.heap.size + cells = τ.1 → sl0 + slots = τ.2.1 → cells ≤ M ∧ slots ≤ S → ∀ (ls : Array Slot), lv_has ls 7 [(1, .int v1), (2, .int v2), (3, .long v3), (5, .ref v5)] → (lfX0_order K ζ k).1 v1 v2 v3 v5 τ = some res → W p l e (headSpec (ws_ yX0_order cX0_order 7 (some .int)) ({ frames := 101, cells := M, slots := S, locals := 2323 })).room s m ([.ref h, .int a0, .int a1] : List Value).toArray below meth c H locs cells slots (MQ below (zQi D cA ζ res) ([.ref h, .int a0, .int a1] : List Value).toArray s M S (zA ζ)) (F0 m 50 ls [])) ∧ (∀ (v1 : Int32) (v2 : Int32) (v3 : Int64) (v5 : Nat) (v6 : Nat) (τ : pH) (H : Heap) (locs : List Loc) (cells slots : Nat), zH D cA ζ τ H → va_S (zA ζ) s.heap H locs → s.heap.size + cells = τ.1 → sl0 + slots = τ.2.1 → cells ≤ M ∧ slots ≤ S → ∀ (ls : Array Slot), lv_has ls 7 [(1, .int v1), (2, .int v2), (3, .long v3), (5, .ref v5), (6, .ref v6)] → (lfX0_order K ζ k).2.1 v1 v2 v3 v5 v6 τ = some res → W p l e (headSpec (ws_ yX0_order cX0_order 7 (some .int)) ({ frames := 101, cells := M, slots := S, locals := 2323 })).room s m ([.ref h, .int a0, .int a1] : List Value).toArray below meth c H locs cells slots (MQ below (zQi D cA ζ res) ([.ref h, .int a0, .int a1] : List Value).toArray s M S (zA ζ)) (F0 m 72 ls [])) ∧ (∀ (v1 : Int32) (v2 : Int32) (v3 : Int64) (v5 : Nat) (τ : pH) (H : Heap) (locs : List Loc) (cells slots : Nat), zH D cA ζ τ H → va_S (zA ζ) s.heap H locs → s.heap.size + cells = τ.1 → sl0 + slots = τ.2.1 → cells ≤ M ∧ slots ≤ S → ∀ (ls : Array Slot), lv_has ls 7 [(1, .int v1), (2, .int v2), (3, .long v3), (5, .ref v5)] → (lfX0_order K ζ k).2.2 v1 v2 v3 v5 τ = some res → W p l e (headSpec (ws_ yX0_order cX0_order 7 (some .int)) ({ frames := 101, cells := M, slots := S, locals := 2323 })).room s m ([.ref h, .int a0, .int a1] : List Value).toArray below meth c H locs cells slots (MQ below (zQi D cA ζ res) ([.ref h, .int a0, .int a1] : List Value).toArray s M S (zA ζ)) (F0 m 114 ls [])) := by
  intro k
  induction k with
  | zero =>
    exact ⟨fun _ _ _ _ _ _ _ _ _ _ _ _ _ _ _ _ hf => (by cases hf), fun _ _ _ _ _ _ _ _ _ _ _ _ _ _ _ _ _ hf => (by cases hf), fun _ _ _ _ _ _ _ _ _ _ _ _ _ _ _ _ hf => (by cases hf)⟩
  | succ k ih =>
    refine ⟨?_, ?_, ?_⟩
    · intro v1 v2 v3 v5 τ H locs cells slots hH hS hcs hss hcM ls hl hf
      have hf : (dz_b (zob ζ τ v5 2) fun f3 => zcl τ (fnX2_hasNext K ζ v5 τ) fun x1 s2 => if x1 = (0 : Int32) then (dz_l (Int64.toInt32 v3) fun x4 => some (x4, s2)) else (dz_b (zob ζ s2 v5 2) fun f7 => zcl s2 (fnX2_next K ζ v5 s2) fun x5 s6 => dz_b (zob ζ s6 x5 11) fun f8 => (lfX0_order K ζ k).2.1 v1 v2 v3 v5 x5 s6) : Option (Int32 × pH)) = some res := hf
      refine lv_aload hx hb dX0_order_50 (lv_at hl 3 rfl) ?_
      obtain ⟨f3, hf3, hf⟩ := dz_bo hf
      obtain ⟨x1, s2, hx1, hle, hck, hf⟩ := zcl_o hf
      have hc1 : cells + (s2.1 - τ.1) ≤ M := by omega
      have hs1 : slots + (s2.2.1 - τ.2.1) ≤ S := by omega
      refine va_callFi (va_runF (hX.K.1 2 _ rfl).2 (As := []) (rest := []) ⟨hx, hb, hml, hown, hts⟩ (mtX2_hasNext l D cA ζ τ v5 K (x1, s2) hx1 (s2.1 - τ.1) (s2.2.1 - τ.2.1) (Nat.add_sub_cancel' hle.1) (Nat.add_sub_cancel' hle.2)) (va_cwF 0 hts (zF_in q782 q267 q269 q91 q271) rfl rfl rfl (hX.F 0 rfl) (by decide +kernel) ⟨Nat.le_of_ble_eq_true rfl, Nat.le_of_ble_eq_true rfl⟩) (z_preV hX hS hH (zob_o hf3) rfl) rfl rfl hl.1 rfl (lv_room (Nat.le_of_ble_eq_true rfl)) dX0_order_52 ⟨hc1, hs1⟩) hS (fun q _ hq => hq) (fun q hq => hq) (fun r u t H1 locs ht hvm hw hB hz hk hS => ?_)
      obtain ⟨hw1, hw2⟩ := Prod.mk.inj hw.symm; subst hw1; subst hw2
      have hH : zH D cA ζ s2 H1 := z_at ht.symm hB
      have hcs : s.heap.size + (cells + (s2.1 - τ.1)) = s2.1 := by omega
      have hss : sl0 + (slots + (s2.2.1 - τ.2.1)) = s2.2.1 := by omega
      replace hcM := And.intro hc1 hs1
      generalize cells + (s2.1 - τ.1) = cells at hcs hcM ⊢; generalize slots + (s2.2.1 - τ.2.1) = slots at hss hcM ⊢
      clear hB hk hz hvm ht hle hck hc1 hs1; generalize H1 = H at hH hS ⊢
      refine lv_if_eq (tgt := 117) hx hb dX0_order_57 (by decide) (fun c57 => ?_) (fun c57 => ?_)
      · have hf := dz_t c57 hf
        refine lv_lload_n hx hb dX0_order_117 rfl (lv_at hl 2 rfl) ?_
        refine lv_l2i hx hb dX0_order_118 (rfl : _ = Int64.toInt32 v3) ?_
        refine lv_topi (fun x4 e_x4 => ?_)
        have hf := dz_ls e_x4 hf
        obtain ⟨hM1, hS1⟩ : cells = M ∧ slots = S := by have hq := congrArg Prod.snd (Option.some.inj hf); rw [← hq] at hM hS0; have hM : s.heap.size + M = s2.1 := hM; have hS0 : sl0 + S = s2.2.1 := hS0; omega
        refine W.widen (k := M) (n := S) (Nat.le_of_eq hM1) (Nat.le_of_eq hS1) ?_
        exact W.iret (v := x4) hx hb hr (fun t ht hW => ⟨⟨x4, s2, rfl, Option.some.inj hf, z_at ht hH⟩, hS.F ht⟩) hS.2.2 dX0_order_119
      · have hf := dz_f c57 hf
        refine lv_aload hx hb dX0_order_60 (lv_at hl 3 rfl) ?_
        obtain ⟨f7, hf7, hf⟩ := dz_bo hf
        obtain ⟨x5, s6, hx5, hle, hck, hf⟩ := zcl_o hf
        have hc1 : cells + (s6.1 - s2.1) ≤ M := by omega
        have hs1 : slots + (s6.2.1 - s2.2.1) ≤ S := by omega
        refine va_callFr (va_runF (hX.K.1 2 _ rfl).2 (As := []) (rest := []) ⟨hx, hb, hml, hown, hts⟩ (mtX2_next l D cA ζ s2 v5 K (x5, s6) hx5 (s6.1 - s2.1) (s6.2.1 - s2.2.1) (Nat.add_sub_cancel' hle.1) (Nat.add_sub_cancel' hle.2)) (va_cwF 0 hts (zF_in q784 q282 q284 q91 q286) rfl rfl rfl (hX.F 1 rfl) (by decide +kernel) ⟨Nat.le_of_ble_eq_true rfl, Nat.le_of_ble_eq_true rfl⟩) (z_preV hX hS hH (zob_o hf7) rfl) rfl rfl hl.1 rfl (lv_room (Nat.le_of_ble_eq_true rfl)) dX0_order_62 ⟨hc1, hs1⟩) hS (fun q _ hq => hq) (fun q hq => hq) (fun u r t H1 locs ht hvm hw hB hz hk hS => ?_)
        obtain ⟨hw, hB⟩ := hB
        obtain ⟨hw1, hw2⟩ := Prod.mk.inj hw.symm; subst hw1; subst hw2
        have hH : zH D cA ζ s6 H1 := z_at ht.symm hB
        have hcs : s.heap.size + (cells + (s6.1 - s2.1)) = s6.1 := by omega
        have hss : sl0 + (slots + (s6.2.1 - s2.2.1)) = s6.2.1 := by omega
        replace hcM := And.intro hc1 hs1
        generalize cells + (s6.1 - s2.1) = cells at hcs hcM ⊢; generalize slots + (s6.2.1 - s2.2.1) = slots at hss hcM ⊢
        clear hB hk hz hvm ht hle hck hc1 hs1; generalize H1 = H at hH hS ⊢
        obtain ⟨f8, hf8, hf⟩ := dz_bo hf
        refine va_castS (nm := RX13) hx hb hown (hts _ q677) (hX.K.1 11 _ rfl).2 (va_recv hX.K (zrd_P hX hS hH (zob_o hf8)) (ci := 11) (q0 := 0) rfl rfl) dX0_order_67 ?_
        refine lv_astore (lv' := [(6, .ref x5), (1, .int v1), (2, .int v2), (3, .long v3), (5, .ref v5)]) hx hb dX0_order_70 hl (by decide) rfl (fun ls hl => ?_)
        exact ih.2.1 v1 v2 v3 v5 x5 s6 H locs cells slots hH hS hcs hss hcM ls (lv_sub hl [1, 2, 3, 4, 0] rfl) hf
    · intro v1 v2 v3 v5 v6 τ H locs cells slots hH hS hcs hss hcM ls hl hf
      have hf : (dz_b (zob ζ τ v6 11) fun f1 => dz_b (zvl (f1[0]?)) fun x2 => if ¬ x2 = 0 then (dz_l (v3 - v3 / x2 * x2) fun x4 => if x4 = (0 : Int64) then (dz_b (zob ζ τ v6 11) fun f5 => dz_b (zvl (f5[0]?)) fun x6 => if ¬ x6 = 0 then (dz_l (v3 / x6) fun x8 => zcl τ (fnX0_powerOf K ζ (Int32.toInt64 v1) x8 (Int32.toInt64 v2) τ) fun x9 s10 => if x9 = (1 : Int64) then (dz_b (zob ζ s10 v6 11) fun f11 => dz_b (zvl (f11[0]?)) fun x12 => if ¬ x12 = 0 then (dz_l (v3 / x12) fun x14 => (lfX0_order K ζ k).2.1 v1 v2 x14 v5 v6 s10) else none) else ((lfX0_order K ζ k).2.2 v1 v2 v3 v5 s10)) else none) else ((lfX0_order K ζ k).2.2 v1 v2 v3 v5 τ)) else none : Option (Int32 × pH)) = some res := hf
      refine lv_lload_n hx hb dX0_order_72 rfl (lv_at hl 2 rfl) ?_
      refine lv_aload hx hb dX0_order_73 (lv_at hl 4 rfl) ?_
      obtain ⟨f1, hf1, hf⟩ := dz_bo hf
      obtain ⟨x2, hx2, hf⟩ := dz_bo hf
      refine va_get (C := RX13) (T := TX13) (N := 3) hx hb hts in_X13 hown hX.K (zrd_P hX hS hH (zob_o hf1)) 0 rfl rfl 0 (by decide) (hts _ q686) (fun _ hq => hq) (zvl_o hx2) dX0_order_75 ?_
      obtain ⟨g3, hf⟩ := dz_go hf
      refine lv_lrem hx hb dX0_order_78 g3 ?_
      refine lv_topl (fun x4 e_x4 => ?_)
      have hf := dz_ls e_x4 hf
      refine lv_lconst (v := 0) hx hb dX0_order_79 rfl ?_
      refine W.lcmp hx hb dX0_order_80 ?_
      refine lv_if_ne (tgt := 114) hx hb dX0_order_81 (by decide) (fun c81 => ?_) (fun c81 => ?_)
      · have c81 : ¬ x4 = (0 : Int64) := fun hq => c81 ((lg_cmp_eq _ _).mpr hq)
        have hf := dz_f c81 hf
        exact ih.2.2 v1 v2 v3 v5 τ H locs cells slots hH hS hcs hss hcM ls (lv_sub hl [0, 1, 2, 3] rfl) hf
      · have c81 : x4 = (0 : Int64) := (lg_cmp_eq _ _).mp c81
        have hf := dz_t c81 hf
        refine lv_iload_n hx hb dX0_order_84 rfl (lv_at hl 0 rfl) ?_
        refine lv_i2l hx hb dX0_order_85 (rfl : _ = Int32.toInt64 v1) ?_
        refine lv_lload_n hx hb dX0_order_86 rfl (lv_at hl 2 rfl) ?_
        refine lv_aload hx hb dX0_order_87 (lv_at hl 4 rfl) ?_
        obtain ⟨f5, hf5, hf⟩ := dz_bo hf
        obtain ⟨x6, hx6, hf⟩ := dz_bo hf
        refine va_get (C := RX13) (T := TX13) (N := 3) hx hb hts in_X13 hown hX.K (zrd_P hX hS hH (zob_o hf5)) 0 rfl rfl 0 (by decide) (hts _ q686) (fun _ hq => hq) (zvl_o hx6) dX0_order_89 ?_
        obtain ⟨g7, hf⟩ := dz_go hf
        refine lv_ldiv hx hb dX0_order_92 g7 ?_
        refine lv_topl (fun x8 e_x8 => ?_)
        have hf := dz_ls e_x8 hf
        refine lv_iload_n hx hb dX0_order_93 rfl (lv_at hl 1 rfl) ?_
        refine lv_i2l hx hb dX0_order_94 (rfl : _ = Int32.toInt64 v2) ?_
        obtain ⟨x9, s10, hx9, hle, hck, hf⟩ := zcl_o hf
        have hc1 : cells + (s10.1 - τ.1) ≤ M := by omega
        have hs1 : slots + (s10.2.1 - τ.2.1) ≤ S := by omega
        refine va_calll (va_runS (As := [.long (Int32.toInt64 v1), .long x8, .long (Int32.toInt64 v2)]) (rest := []) ⟨hx, hb, hml, hown, hts⟩ (mtX0_powerOf l D cA ζ τ (Int32.toInt64 v1) x8 (Int32.toInt64 v2) K (x9, s10) hx9 (s10.1 - τ.1) (s10.2.1 - τ.2.1) (Nat.add_sub_cancel' hle.1) (Nat.add_sub_cancel' hle.2)) (va_cwS 3 hts (lw_S q1627 q368 q84 q369) rfl rfl rfl (by decide +kernel) ⟨Nat.le_of_ble_eq_true rfl, Nat.le_of_ble_eq_true rfl⟩) (z_preS hX hS hH) rfl rfl hl.1 rfl (lv_room (Nat.le_of_ble_eq_true rfl)) dX0_order_95 ⟨hc1, hs1⟩) hS (fun q _ hq => hq) (fun q hq => hq) (fun r u t H1 locs ht hvm hw hB hz hk hS => ?_)
        obtain ⟨hw1, hw2⟩ := Prod.mk.inj hw.symm; subst hw1; subst hw2
        have hH : zH D cA ζ s10 H1 := z_at ht.symm hB
        have hcs : s.heap.size + (cells + (s10.1 - τ.1)) = s10.1 := by omega
        have hss : sl0 + (slots + (s10.2.1 - τ.2.1)) = s10.2.1 := by omega
        replace hcM := And.intro hc1 hs1
        generalize cells + (s10.1 - τ.1) = cells at hcs hcM ⊢; generalize slots + (s10.2.1 - τ.2.1) = slots at hss hcM ⊢
        clear hB hk hz hvm ht hle hck hc1 hs1; generalize H1 = H at hH hS ⊢
        refine lv_lconst (v := 1) hx hb dX0_order_98 rfl ?_
        refine W.lcmp hx hb dX0_order_99 ?_
        refine lv_if_ne (tgt := 114) hx hb dX0_order_100 (by decide) (fun c100 => ?_) (fun c100 => ?_)
        · have c100 : ¬ x9 = (1 : Int64) := fun hq => c100 ((lg_cmp_eq _ _).mpr hq)
          have hf := dz_f c100 hf
          exact ih.2.2 v1 v2 v3 v5 s10 H locs cells slots hH hS hcs hss hcM ls (lv_sub hl [0, 1, 2, 3] rfl) hf
        · have c100 : x9 = (1 : Int64) := (lg_cmp_eq _ _).mp c100
          have hf := dz_t c100 hf
          refine lv_lload_n hx hb dX0_order_103 rfl (lv_at hl 2 rfl) ?_
          refine lv_aload hx hb dX0_order_104 (lv_at hl 4 rfl) ?_
          obtain ⟨f11, hf11, hf⟩ := dz_bo hf
          obtain ⟨x12, hx12, hf⟩ := dz_bo hf
          refine va_get (C := RX13) (T := TX13) (N := 3) hx hb hts in_X13 hown hX.K (zrd_P hX hS hH (zob_o hf11)) 0 rfl rfl 0 (by decide) (hts _ q686) (fun _ hq => hq) (zvl_o hx12) dX0_order_106 ?_
          obtain ⟨g13, hf⟩ := dz_go hf
          refine lv_ldiv hx hb dX0_order_109 g13 ?_
          refine lv_topl (fun x14 e_x14 => ?_)
          have hf := dz_ls e_x14 hf
          refine lv_lstore_n (lv' := [(3, .long x14), (1, .int v1), (2, .int v2), (5, .ref v5), (6, .ref v6)]) hx hb dX0_order_110 rfl hl (by decide) rfl (fun ls hl => ?_)
          refine lv_goto (tgt := 72) hx hb dX0_order_111 (by decide) ?_
          exact ih.2.1 v1 v2 x14 v5 v6 s10 H locs cells slots hH hS hcs hss hcM ls (lv_sub hl [1, 2, 0, 3, 4] rfl) hf
    · intro v1 v2 v3 v5 τ H locs cells slots hH hS hcs hss hcM ls hl hf
      have hf : ((lfX0_order K ζ k).1 v1 v2 v3 v5 τ : Option (Int32 × pH)) = some res := hf
      refine lv_goto (tgt := 50) hx hb dX0_order_114 (by decide) ?_
      exact ih.1 v1 v2 v3 v5 τ H locs cells slots hH hS hcs hss hcM ls (lv_sub hl [0, 1, 2, 3] rfl) hf
set_option maxHeartbeats 4000000 in
set_option maxRecDepth 100000 in
theorem mtX0_order (l : Launch) (D : va_G) (cA : Nat → ClassId) (ζ : pZ) (τ : pH) (h : Nat) (a0 : Int32) (a1 : Int32) (K : Nat) (res : (Int32 × pH)) (hf : fnX0_order K ζ h a0 a1 τ = some res) (M S : Nat) (hM : τ.1 + M = res.2.1) (hS0 : τ.2.1 + S = res.2.2.1) : Met l yX0_order (ws_ yX0_order cX0_order 7 (some .int)) ({ frames := 101, cells := M, slots := S, locals := 2323 }) (zPc D cA ζ τ [.ref h, .int a0, .int a1]) (zQi D cA ζ res) M S (zA ζ) := by
  refine Met.ofW (cc := cX0_order) (maxL := 7) (ret := some .int) (by decide +kernel) rfl ?_
  intro p e s m args below meth c s₁ B hml hv
  obtain ⟨rfl, hX, hH⟩ := hv
  have hx := B.exec
  have hb := B.bytes
  have hr := B.returns
  have hts := atoms_spec (ws := ws_ yX0_order cX0_order 7 (some .int)) B.pre
  have hts : ∀ w ∈ lw_all, w.before _ s = true := fun w h => hts w (List.mem_cons_of_mem _ h)
  have hown : s.vm.findClass RX0 = some m.cls := findClass_of_methodNamed B.named
  have hlocks := B.notSynchronized
  have hM : s.heap.size + M = res.2.1 := by rw [hH.1]; exact hM
  have hcs : s.heap.size + 0 = τ.1 := hH.1
  have hss : τ.2.1 + 0 = τ.2.1 := rfl
  generalize hsl0 : τ.2.1 = sl0 at hS0 hss
  have hss : sl0 + 0 = τ.2.1 := by rw [hsl0]; rfl
  have hS : va_S (zA ζ) s.heap s.heap [] := va_S.rf
  generalize hHe : s.heap = H at hH hS ⊢
  have hS : va_S (zA ζ) s.heap H [] := by rw [hHe]; exact hS
  generalize ([] : List Loc) = locs at hS ⊢
  have hl := lv_entry ([.ref h, .int a0, .int a1]) (n := 7) (Nat.le_of_ble_eq_true rfl)
  rw [lg_entry_eq]
  generalize (lg_sl ([.ref h, .int a0, .int a1]) ++ List.replicate (7 - (lg_sl ([.ref h, .int a0, .int a1])).length) Slot.unset).toArray = ls at hl ⊢
  have hl : lv_has ls 7 [(0, .ref h), (1, .int a0), (2, .int a1)] := hl
  have hf : (if a0 < (0 : Int32) then (some ((-1), τ)) else (dz_b (fnX0_isIn K (Int32.toInt64 a1) 2 1000000) fun x1 => if x1 = (0 : Int32) then (some ((-1), τ)) else (dz_b (fnX0_common 100 (Int32.toInt64 a0) (Int32.toInt64 a1)) fun x2 => if x2 = (1 : Int64) then (zcl τ (fnX0_unitsOf K ζ (Int32.toInt64 a1) τ) fun x3 s4 => zcl s4 (fnX0_factors K ζ x3 s4) fun x5 s6 => dz_b (zob ζ s6 x5 10) fun f9 => zcl s6 (fnX8_iterator K ζ x5 s6) fun x7 s8 => (lfX0_order K ζ K).1 a0 a1 x3 x7 s8) else (some ((-2), τ)))) : Option (Int32 × pH)) = some res := hf
  refine z_gen (fun cells slots hc0 hs0 => ?_)
  have hcs : s.heap.size + cells = τ.1 := by rw [hc0]; exact hcs
  have hss : sl0 + slots = τ.2.1 := by rw [hs0]; exact hss
  have hcM : cells ≤ M ∧ slots ≤ S := by rw [hc0, hs0]; exact ⟨Nat.zero_le _, Nat.zero_le _⟩
  clear hc0 hs0
  have ih := wlX0_order (l := l) (e := e) (below := below) (D := D) (cA := cA) hX K res M S sl0 hM hS0 h a0 a1 hx hb hr hlocks hml hown hts K
  refine lv_iload_n hx hb dX0_order_0 rfl (lv_at hl 1 rfl) ?_
  refine lv_if_lt (tgt := 18) hx hb dX0_order_1 (by decide) (fun c1 => ?_) (fun c1 => ?_)
  · have hf := dz_t c1 hf
    refine lv_iconst (v := (-1)) hx hb dX0_order_18 (by decide) ?_
    obtain ⟨hM1, hS1⟩ : cells = M ∧ slots = S := by have hq := congrArg Prod.snd (Option.some.inj hf); rw [← hq] at hM hS0; have hM : s.heap.size + M = τ.1 := hM; have hS0 : sl0 + S = τ.2.1 := hS0; omega
    refine W.widen (k := M) (n := S) (Nat.le_of_eq hM1) (Nat.le_of_eq hS1) ?_
    exact W.iret (v := (-1)) hx hb hr (fun t ht hW => ⟨⟨(-1), τ, rfl, Option.some.inj hf, z_at ht hH⟩, hS.F ht⟩) hS.2.2 dX0_order_19
  · have hf := dz_f c1 hf
    refine lv_iload_n hx hb dX0_order_4 rfl (lv_at hl 2 rfl) ?_
    refine lv_i2l hx hb dX0_order_5 (rfl : _ = Int32.toInt64 a1) ?_
    refine lv_ldc2 (v := 2) hx hb hown (hts _ q194) dX0_order_6 ?_
    refine lv_ldc2 (v := 1000000) hx hb hown (hts _ q1640) dX0_order_9 ?_
    obtain ⟨x1, hx1, hf⟩ := dz_bo hf
    refine va_calli (va_runS (As := [.long (Int32.toInt64 a1), .long 2, .long 1000000]) (rest := []) ⟨hx, hb, hml, hown, hts⟩ (mtX0_isIn l (Int32.toInt64 a1) 2 1000000 K x1 hx1) (va_cwS 3 hts (lw_S q188 q189 q84 q190) rfl rfl rfl (by decide +kernel) ⟨Nat.le_of_ble_eq_true rfl, Nat.le_of_ble_eq_true rfl⟩) ⟨fun a U g mk q => q, fun U hU hW => ⟨rfl, trivial⟩⟩ rfl rfl hl.1 rfl (lv_room (Nat.le_of_ble_eq_true rfl)) dX0_order_12 ⟨hcM.1, hcM.2⟩) hS (fun q _ hq => hq.elim) (fun q hq => hq.elim) (fun r u t H1 locs ht hvm hw hB hz hk hS => dz_size (fun hz9 => ?_))
    replace hw := hw.symm; subst hw
    replace hH := zH_keep hH hcs hz hk hz9
    clear hB hk hz hvm ht hz9; generalize H1 = H at hH hS ⊢
    refine W.widen (k := cells) (n := slots) (Nat.le_refl _) (Nat.le_refl _) ?_
    refine lv_if_ne (tgt := 20) hx hb dX0_order_15 (by decide) (fun c15 => ?_) (fun c15 => ?_)
    · have hf := dz_f c15 hf
      refine lv_iload_n hx hb dX0_order_20 rfl (lv_at hl 1 rfl) ?_
      refine lv_i2l hx hb dX0_order_21 (rfl : _ = Int32.toInt64 a0) ?_
      refine lv_iload_n hx hb dX0_order_22 rfl (lv_at hl 2 rfl) ?_
      refine lv_i2l hx hb dX0_order_23 (rfl : _ = Int32.toInt64 a1) ?_
      obtain ⟨x2, hx2, hf⟩ := dz_bo hf
      refine va_calll (va_runS (As := [.long (Int32.toInt64 a0), .long (Int32.toInt64 a1)]) (rest := []) ⟨hx, hb, hml, hown, hts⟩ (mtX0_common l (Int32.toInt64 a0) (Int32.toInt64 a1) 100 x2 hx2) (va_cwS 2 hts (lw_S q349 q347 q84 q348) rfl rfl rfl (by decide +kernel) ⟨Nat.le_of_ble_eq_true rfl, Nat.le_of_ble_eq_true rfl⟩) ⟨fun a U g mk q => q, fun U hU hW => ⟨rfl, trivial⟩⟩ rfl rfl hl.1 rfl (lv_room (Nat.le_of_ble_eq_true rfl)) dX0_order_24 ⟨hcM.1, hcM.2⟩) hS (fun q _ hq => hq.elim) (fun q hq => hq.elim) (fun r u t H1 locs ht hvm hw hB hz hk hS => dz_size (fun hz9 => ?_))
      replace hw := hw.symm; subst hw
      replace hH := zH_keep hH hcs hz hk hz9
      clear hB hk hz hvm ht hz9; generalize H1 = H at hH hS ⊢
      refine W.widen (k := cells) (n := slots) (Nat.le_refl _) (Nat.le_refl _) ?_
      refine lv_lconst (v := 1) hx hb dX0_order_27 rfl ?_
      refine W.lcmp hx hb dX0_order_28 ?_
      refine lv_if_eq (tgt := 35) hx hb dX0_order_29 (by decide) (fun c29 => ?_) (fun c29 => ?_)
      · have c29 : x2 = (1 : Int64) := (lg_cmp_eq _ _).mp c29
        have hf := dz_t c29 hf
        refine lv_iload_n hx hb dX0_order_35 rfl (lv_at hl 2 rfl) ?_
        refine lv_i2l hx hb dX0_order_36 (rfl : _ = Int32.toInt64 a1) ?_
        obtain ⟨x3, s4, hx3, hle, hck, hf⟩ := zcl_o hf
        have hc1 : cells + (s4.1 - τ.1) ≤ M := by omega
        have hs1 : slots + (s4.2.1 - τ.2.1) ≤ S := by omega
        refine va_calll (va_runS (As := [.long (Int32.toInt64 a1)]) (rest := []) ⟨hx, hb, hml, hown, hts⟩ (mtX0_unitsOf l D cA ζ τ (Int32.toInt64 a1) K (x3, s4) hx3 (s4.1 - τ.1) (s4.2.1 - τ.2.1) (Nat.add_sub_cancel' hle.1) (Nat.add_sub_cancel' hle.2)) (va_cwS 1 hts (lw_S q1641 q1642 q84 q1643) rfl rfl rfl (by decide +kernel) ⟨Nat.le_of_ble_eq_true rfl, Nat.le_of_ble_eq_true rfl⟩) (z_preS hX hS hH) rfl rfl hl.1 rfl (lv_room (Nat.le_of_ble_eq_true rfl)) dX0_order_37 ⟨hc1, hs1⟩) hS (fun q _ hq => hq) (fun q hq => hq) (fun r u t H1 locs ht hvm hw hB hz hk hS => ?_)
        obtain ⟨hw1, hw2⟩ := Prod.mk.inj hw.symm; subst hw1; subst hw2
        have hH : zH D cA ζ s4 H1 := z_at ht.symm hB
        have hcs : s.heap.size + (cells + (s4.1 - τ.1)) = s4.1 := by omega
        have hss : sl0 + (slots + (s4.2.1 - τ.2.1)) = s4.2.1 := by omega
        replace hcM := And.intro hc1 hs1
        generalize cells + (s4.1 - τ.1) = cells at hcs hcM ⊢; generalize slots + (s4.2.1 - τ.2.1) = slots at hss hcM ⊢
        clear hB hk hz hvm ht hle hck hc1 hs1; generalize H1 = H at hH hS ⊢
        refine lv_lstore_n (lv' := [(3, .long x3), (0, .ref h), (1, .int a0), (2, .int a1)]) hx hb dX0_order_40 rfl hl (by decide) rfl (fun ls hl => ?_)
        refine lv_lload_n hx hb dX0_order_41 rfl (lv_at hl 0 rfl) ?_
        obtain ⟨x5, s6, hx5, hle, hck, hf⟩ := zcl_o hf
        have hc1 : cells + (s6.1 - s4.1) ≤ M := by omega
        have hs1 : slots + (s6.2.1 - s4.2.1) ≤ S := by omega
        refine va_callr (va_runS (As := [.long x3]) (rest := []) ⟨hx, hb, hml, hown, hts⟩ (mtX0_factors l D cA ζ s4 x3 K (x5, s6) hx5 (s6.1 - s4.1) (s6.2.1 - s4.2.1) (Nat.add_sub_cancel' hle.1) (Nat.add_sub_cancel' hle.2)) (va_cwS 1 hts (lw_S q1576 q673 q84 q674) rfl rfl rfl (by decide +kernel) ⟨Nat.le_of_ble_eq_true rfl, Nat.le_of_ble_eq_true rfl⟩) (z_preS hX hS hH) rfl rfl hl.1 rfl (lv_room (Nat.le_of_ble_eq_true rfl)) dX0_order_42 ⟨hc1, hs1⟩) hS (fun q _ hq => hq) (fun q hq => hq) (fun u r t H1 locs ht hvm hw hB hz hk hS => ?_)
        obtain ⟨hw, hB⟩ := hB
        obtain ⟨hw1, hw2⟩ := Prod.mk.inj hw.symm; subst hw1; subst hw2
        have hH : zH D cA ζ s6 H1 := z_at ht.symm hB
        have hcs : s.heap.size + (cells + (s6.1 - s4.1)) = s6.1 := by omega
        have hss : sl0 + (slots + (s6.2.1 - s4.2.1)) = s6.2.1 := by omega
        replace hcM := And.intro hc1 hs1
        generalize cells + (s6.1 - s4.1) = cells at hcs hcM ⊢; generalize slots + (s6.2.1 - s4.2.1) = slots at hss hcM ⊢
        clear hB hk hz hvm ht hle hck hc1 hs1; generalize H1 = H at hH hS ⊢
        obtain ⟨f9, hf9, hf⟩ := dz_bo hf
        obtain ⟨x7, s8, hx7, hle, hck, hf⟩ := zcl_o hf
        have hc1 : cells + (s8.1 - s6.1) ≤ M := by omega
        have hs1 : slots + (s8.2.1 - s6.2.1) ≤ S := by omega
        refine va_callr (va_runV (As := []) (rest := []) ⟨hx, hb, hml, hown, hts⟩ (mtX8_iterator l D cA ζ s6 x5 K (x7, s8) hx7 (s8.1 - s6.1) (s8.2.1 - s6.2.1) (Nat.add_sub_cancel' hle.1) (Nat.add_sub_cancel' hle.2)) (cwV 0 hts (lw_V q780 q246 q247 q98 q248) rfl rfl rfl (by decide +kernel) ⟨Nat.le_of_ble_eq_true rfl, Nat.le_of_ble_eq_true rfl⟩) (z_preV hX hS hH (zob_o hf9) rfl) rfl rfl hl.1 rfl (lv_room (Nat.le_of_ble_eq_true rfl)) dX0_order_45 ⟨hc1, hs1⟩) hS (fun q _ hq => hq) (fun q hq => hq) (fun u r t H1 locs ht hvm hw hB hz hk hS => ?_)
        obtain ⟨hw, hB⟩ := hB
        obtain ⟨hw1, hw2⟩ := Prod.mk.inj hw.symm; subst hw1; subst hw2
        have hH : zH D cA ζ s8 H1 := z_at ht.symm hB
        have hcs : s.heap.size + (cells + (s8.1 - s6.1)) = s8.1 := by omega
        have hss : sl0 + (slots + (s8.2.1 - s6.2.1)) = s8.2.1 := by omega
        replace hcM := And.intro hc1 hs1
        generalize cells + (s8.1 - s6.1) = cells at hcs hcM ⊢; generalize slots + (s8.2.1 - s6.2.1) = slots at hss hcM ⊢
        clear hB hk hz hvm ht hle hck hc1 hs1; generalize H1 = H at hH hS ⊢
        refine lv_astore (lv' := [(5, .ref x7), (3, .long x3), (0, .ref h), (1, .int a0), (2, .int a1)]) hx hb dX0_order_48 hl (by decide) rfl (fun ls hl => ?_)
        exact ih.1 a0 a1 x3 x7 s8 H locs cells slots hH hS hcs hss hcM ls (lv_sub hl [3, 4, 1, 0] rfl) hf
      · have c29 : ¬ x2 = (1 : Int64) := fun hq => c29 ((lg_cmp_eq _ _).mpr hq)
        have hf := dz_f c29 hf
        refine lv_bipush (v := (-2)) hx hb dX0_order_32 (by decide) ?_
        obtain ⟨hM1, hS1⟩ : cells = M ∧ slots = S := by have hq := congrArg Prod.snd (Option.some.inj hf); rw [← hq] at hM hS0; have hM : s.heap.size + M = τ.1 := hM; have hS0 : sl0 + S = τ.2.1 := hS0; omega
        refine W.widen (k := M) (n := S) (Nat.le_of_eq hM1) (Nat.le_of_eq hS1) ?_
        exact W.iret (v := (-2)) hx hb hr (fun t ht hW => ⟨⟨(-2), τ, rfl, Option.some.inj hf, z_at ht hH⟩, hS.F ht⟩) hS.2.2 dX0_order_34
    · have hf := dz_t c15 hf
      refine lv_iconst (v := (-1)) hx hb dX0_order_18 (by decide) ?_
      obtain ⟨hM1, hS1⟩ : cells = M ∧ slots = S := by have hq := congrArg Prod.snd (Option.some.inj hf); rw [← hq] at hM hS0; have hM : s.heap.size + M = τ.1 := hM; have hS0 : sl0 + S = τ.2.1 := hS0; omega
      refine W.widen (k := M) (n := S) (Nat.le_of_eq hM1) (Nat.le_of_eq hS1) ?_
      exact W.iret (v := (-1)) hx hb hr (fun t ht hW => ⟨⟨(-1), τ, rfl, Option.some.inj hf, z_at ht hH⟩, hS.F ht⟩) hS.2.2 dX0_order_19

