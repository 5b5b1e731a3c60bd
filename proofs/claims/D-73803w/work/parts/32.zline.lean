/-! two fields of one name, of two classes, lie apart too -/
theorem zq_names {args : Array Value} {s : State} {C O f d : String} (h : (Cond.laysFinal C O f d).before args s = true) {cf kf fi fd} (hi : s.fieldFound? O f d = some (cf, kf, fi, fd)) : ∃ a q, s.vm.findClass C = some a ∧ Jmm.declares? s.vm fd.slot (a + 1) a = some q ∧ q.1.name = O := by
  obtain ⟨a, _, c', k', _, g, ha, _, hg, _, _, _, ho, _, d, hd, hn1, hn, _⟩ := Cond.laysFinal_spec h
  cases hi.symm.trans hg
  obtain ⟨k2, hk2, en⟩ := Vm.findClass_spec ho
  cases hk2.symm.trans (State.fieldFound?_class hg)
  exact ⟨a, d, ha, hd, hn1.trans en⟩
theorem zq_ap2 {args : Array Value} {s : State} {C O f d O' f' d' : String} (h : (Cond.laysFinal C O f d).before args s = true) (h' : (Cond.laysFinal C O' f' d').before args s = true)
    {cf kf fi fd cf' kf' fi' fd'} (hi : s.fieldFound? O f d = some (cf, kf, fi, fd)) (hi' : s.fieldFound? O' f' d' = some (cf', kf', fi', fd')) (hne : O ≠ O') : fd.slot ≠ fd'.slot := by
  obtain ⟨a, q, ha, hq, e⟩ := zq_names h hi
  obtain ⟨a', q', ha', hq', e'⟩ := zq_names h' hi'
  cases ha.symm.trans ha'
  intro hs
  rw [hs] at hq
  cases hq.symm.trans hq'
  exact hne (e.symm.trans e')
theorem zq_fin {args : Array Value} {s : State} {C : String} {T : u_T} {N k : Nat} {Ts : List Cond} (hts : ∀ w ∈ Ts, w.before args s = true) (hin : ∀ w ∈ u_ws C T N, w ∈ Ts) (hk : k < N) (hf : (T k).2.2.2 = true) : (Cond.laysFinal C (T k).1 (T k).2.1 (T k).2.2.1).before args s = true := by
  have h := hts _ (hin _ (u_in_lay hk))
  unfold u_lay at h
  rw [if_pos hf] at h
  exact h
section ZQ
variable {p : Program} {l : Launch} {e : Env} {R : Room} {s : State} {m : MethodId} {args : Array Value} {below : List Frame} {meth : Method} {c : Code} {H : Heap} {locs : List Loc} {cells slots : Nat} {Q : State → Prop}
variable {cc : ByteArray} {pc : Nat} {ls : Array Slot} {rest : List Value} {D : va_G} {cl : List vw_C} {A : Nat → Prop} {a : Nat} {tys : List (ClassId × FieldType)} {ws : va_W} {H0 : Heap}
theorem zq_apart {own C : String} {T : u_T} {N ci : Nat} {Ts : List Cond} (hts : ∀ w ∈ Ts, w.before args s = true) (hin : ∀ w ∈ u_ws C T N, w ∈ Ts) (ty : Nat → FieldType) (hty : ∀ k, k < N → parseFieldDescriptor (T k).2.2.1 = some (ty k)) (hnm : ∀ a, a < N → ∀ b, b < N → a ≠ b → (T a).2.1 ≠ (T b).2.1 ∨ ((T a).1 ≠ (T b).1 ∧ (T a).2.2.2 = true ∧ (T b).2.2.2 = true)) (hK : va_K D cl tys s) (hc : cl[ci]? = some (C, T, N)) : ∀ x y, x < N → y < N → x ≠ y → (D.2 ci) x ≠ (D.2 ci) y := by
  intro x y hx hy hne
  obtain ⟨hS, -⟩ := hK.1 ci _ hc
  obtain ⟨_, _, _, fa, hia, ea⟩ := hS x hx
  obtain ⟨_, _, _, fb, hib, eb⟩ := hS y hy
  rw [← ea, ← eb]
  rcases hnm x hx y hy hne with h | h
  · refine u_apart (u_lays hts hin hx) (u_lays hts hin hy) hia hib ?_
    rw [(State.fieldFound?_type hia (hty x hx)).1, (State.fieldFound?_type hib (hty y hy)).1]
    exact h
  · exact zq_ap2 (zq_fin hts hin hx h.2.1) (zq_fin hts hin hy h.2.2) hia hib h.1
theorem zq_put (hexec : p.tables.exec = Jvm.exec) (hb : c.code = cc) {own ref C : String} {T : u_T} {N ci index : Nat} {Ts : List Cond} (hts : ∀ w ∈ Ts, w.before args s = true) (hin : ∀ w ∈ u_ws C T N, w ∈ Ts) (ty0 : Nat → FieldType) (hty : ∀ k, k < N → parseFieldDescriptor (T k).2.2.1 = some (ty0 k)) (hnm : ∀ a, a < N → ∀ b, b < N → a ≠ b → (T a).2.1 ≠ (T b).2.1 ∨ ((T a).1 ≠ (T b).1 ∧ (T a).2.2.2 = true ∧ (T b).2.2.2 = true)) (hown : s.vm.findClass own = some m.cls) (hK : va_K D cl tys s) (hP : va_P D cl ws H) (hD : va_D A ws) (hS0 : va_S A H0 H locs) (q0 : Nat) {fs : List Value} (he : ws[q0]? = some (a, .inr (ci, fs))) (hc : cl[ci]? = some (C, T, N)) (k : Nat) (hk : k < N) (hlink : (Cond.fieldLink own index ref (T k).2.1 (T k).2.2.1).before args s = true) (hsame : ∀ x, s.fieldFound? (T k).1 (T k).2.1 (T k).2.2.1 = some x → s.fieldFound? ref (T k).2.1 (T k).2.2.1 = some x) (hfin : (T k).2.2.2 = false) {ty : FieldType} {v : Value} (hd : parseFieldDescriptor (T k).2.2.1 = some ty) (hn : narrow ty v = v) (hfit : fits ty v = true) (hl : k < fs.length)
    (hdg : decode cc pc = .ok (.putfield index, 3)) (kk : ∀ (H1 : Heap) (locs1 : List Loc), va_P D cl (ws.set q0 (a, .inr (ci, fs.set k v))) H1 → va_D A (ws.set q0 (a, .inr (ci, fs.set k v))) → va_S A H0 H1 locs1 → W p l e R s m args below meth c H1 locs1 cells slots Q (F0 m (pc + 3) ls rest)) : W p l e R s m args below meth c H locs cells slots Q (F0 m pc ls (v :: .ref a :: rest)) := by
  have hap := zq_apart (own := own) hts hin ty0 hty hnm hK hc
  obtain ⟨r, h1, cell, q1, q2, q3, q4⟩ := hP q0 _ he
  have hr : r = (C, T, N) := Option.some.inj (h1.symm.trans hc)
  subst hr
  obtain ⟨hS, hfc, kC, hkC, hkind⟩ := hK.1 ci _ hc
  obtain ⟨cf, kf, fi, f, hi, hsl⟩ := hS k hk
  have hlay := hts _ (hin _ (u_in_lay hk))
  unfold u_lay at hlay
  rw [if_neg (by rw [hfin]; decide)] at hlay
  have hst := (u_facts hfc hkC (u_lays hts hin hk) hi).1
  have h6 := u_store hfc hkC hkind hlay hi hd hn hfit
  refine W.putK hexec hb (f := f) ⟨hown, hlink, ⟨_, _, _, hsame _ hi⟩, hst⟩ (by rw [q2]; exact h6) q1 q3 (by rw [hsl]; exact k2_hasslot (q4 k hk)) rfl rfl hdg fun H' e1 e2 e3 => ?_
  rw [hsl] at e1 ⊢
  exact kk H' _ (hP.set hD he ⟨_, hc, t_OB.to (V := updV (vp_V fs) k v) ⟨_, e1, q2, q3, t_set q4 hap hk v⟩ (fun j _ => vp_updV_set hl v j)⟩ e3) (hD.set he) (hS0.put e2 e3 (hD.2 q0 _ he))
theorem zq_putF (hexec : p.tables.exec = Jvm.exec) (hb : c.code = cc) {own ref C : String} {T : u_T} {N ci index : Nat} {Ts : List Cond} (hts : ∀ w ∈ Ts, w.before args s = true) (hin : ∀ w ∈ u_ws C T N, w ∈ Ts) (ty0 : Nat → FieldType) (hty : ∀ k, k < N → parseFieldDescriptor (T k).2.2.1 = some (ty0 k)) (hnm : ∀ a, a < N → ∀ b, b < N → a ≠ b → (T a).2.1 ≠ (T b).2.1 ∨ ((T a).1 ≠ (T b).1 ∧ (T a).2.2.2 = true ∧ (T b).2.2.2 = true)) (hown : s.vm.findClass own = some m.cls) (hK : va_K D cl tys s) (hP : va_P D cl ws H) (hD : va_D A ws) (hS0 : va_S A H0 H locs) (q0 : Nat) {fs : List Value} (he : ws[q0]? = some (a, .inr (ci, fs))) (hc : cl[ci]? = some (C, T, N)) (k : Nat) (hk : k < N) (hlink : (Cond.fieldLink own index ref (T k).2.1 (T k).2.2.1).before args s = true) (hsame : ∀ x, s.fieldFound? (T k).1 (T k).2.1 (T k).2.2.1 = some x → s.fieldFound? ref (T k).2.1 (T k).2.2.1 = some x) (hfin : (T k).2.2.2 = true) (hin2 : meth.name = "<init>") (hdecl : (T k).1 = own) {ty : FieldType} {v : Value} (hd : parseFieldDescriptor (T k).2.2.1 = some ty) (hn : narrow ty v = v) (hfit : fits ty v = true) (hl : k < fs.length)
    (hdg : decode cc pc = .ok (.putfield index, 3)) (kk : ∀ (H1 : Heap) (locs1 : List Loc), va_P D cl (ws.set q0 (a, .inr (ci, fs.set k v))) H1 → va_D A (ws.set q0 (a, .inr (ci, fs.set k v))) → va_S A H0 H1 locs1 → W p l e R s m args below meth c H1 locs1 cells slots Q (F0 m (pc + 3) ls rest)) : W p l e R s m args below meth c H locs cells slots Q (F0 m pc ls (v :: .ref a :: rest)) := by
  have hap := zq_apart (own := own) hts hin ty0 hty hnm hK hc
  obtain ⟨r, h1, cell, q1, q2, q3, q4⟩ := hP q0 _ he
  have hr : r = (C, T, N) := Option.some.inj (h1.symm.trans hc)
  subst hr
  obtain ⟨hS, hfc, kC, hkC, hkind⟩ := hK.1 ci _ hc
  obtain ⟨cf, kf, fi, f, hi, hsl⟩ := hS k hk
  have hlay := hts _ (hin _ (u_in_lay hk))
  unfold u_lay at hlay
  rw [if_pos hfin] at hlay
  have hst := (u_facts hfc hkC (u_lays hts hin hk) hi).1
  have hcf : m.cls = cf := by
    obtain ⟨_, _, c', _, _, _, -, -, hf', -, -, -, hown2, -⟩ := Cond.laysFinal_spec hlay
    have e1 : c' = cf := by have := hi.symm.trans hf'; simp at this; exact this.1.symm
    rw [hdecl] at hown2
    rw [← e1]; exact Option.some.inj (hown.symm.trans hown2)
  have h6 := u_fits hfc hkC hkind (Or.inr hlay) hi hd hn hfit
  refine W.putFinK hexec hb hown hlink (hsame _ hi) hst hcf hin2 (by rw [q2]; exact h6) q1 q3 (by rw [hsl]; exact k2_hasslot (q4 k hk)) rfl rfl hdg fun H' e1 e2 e3 => ?_
  rw [hsl] at e1 ⊢
  exact kk H' _ (hP.set hD he ⟨_, hc, t_OB.to (V := updV (vp_V fs) k v) ⟨_, e1, q2, q3, t_set q4 hap hk v⟩ (fun j _ => vp_updV_set hl v j)⟩ e3) (hD.set he) (hS0.put e2 e3 (hD.2 q0 _ he))
end ZQ
theorem nmX7 : ∀ a, a < 8 → ∀ b, b < 8 → a ≠ b → (TX7 a).2.1 ≠ (TX7 b).2.1 ∨ ((TX7 a).1 ≠ (TX7 b).1 ∧ (TX7 a).2.2.2 = true ∧ (TX7 b).2.2.2 = true) := by decide +kernel
theorem nmX9 : ∀ a, a < 8 → ∀ b, b < 8 → a ≠ b → (TX9 a).2.1 ≠ (TX9 b).2.1 ∨ ((TX9 a).1 ≠ (TX9 b).1 ∧ (TX9 a).2.2.2 = true ∧ (TX9 b).2.2.2 = true) := by decide +kernel
theorem nmX10 : ∀ a, a < 8 → ∀ b, b < 8 → a ≠ b → (TX10 a).2.1 ≠ (TX10 b).2.1 ∨ ((TX10 a).1 ≠ (TX10 b).1 ∧ (TX10 a).2.2.2 = true ∧ (TX10 b).2.2.2 = true) := by decide +kernel
theorem nmX11 : ∀ a, a < 8 → ∀ b, b < 8 → a ≠ b → (TX11 a).2.1 ≠ (TX11 b).2.1 ∨ ((TX11 a).1 ≠ (TX11 b).1 ∧ (TX11 a).2.2.2 = true ∧ (TX11 b).2.2.2 = true) := by decide +kernel
theorem nmX12 : ∀ a, a < 8 → ∀ b, b < 8 → a ≠ b → (TX12 a).2.1 ≠ (TX12 b).2.1 ∨ ((TX12 a).1 ≠ (TX12 b).1 ∧ (TX12 a).2.2.2 = true ∧ (TX12 b).2.2.2 = true) := by decide +kernel
theorem z_asg {C T : String} {s : State} {comp c0 : ClassId} (h : va_Nw (.castable C T) s) (h1 : s.vm.findClass T = some comp) (h2 : s.vm.findClass C = some c0) : s.vm.assignable c0 comp = true := by
  have h := h.use (A := #[]) rfl
  simp only [Cond.before, Cond.holds, Cond.value, h1, h2] at h
  simpa using h
section ZL
variable {p : Program} {l : Launch} {e : Env} {R : Room} {s : State} {m : MethodId} {args : Array Value} {below : List Frame} {meth : Method} {c : Code} {H : Heap} {locs : List Loc} {cells slots : Nat} {Q : State → Prop}
variable {D : va_G} {cA : Nat → ClassId} {ζ : pZ} {τ : pH} {cc : ByteArray} {pc : Nat} {ls : Array Slot} {rest : List Value} {a : Nat}
theorem zL_get0 (hexec : p.tables.exec = Jvm.exec) (hb : c.code = cc) {own : String} {index ci : Nat} {fs : List Value} {v : Value} (hts : ∀ w ∈ lw_all, w.before args s = true) (hown : s.vm.findClass own = some m.cls) (hX : zX D cA ζ s) (hS : va_S (zA ζ) s.heap H locs) (hH : zH D cA ζ τ H) (hr : zrd ζ τ a = some (.inr (ci, fs))) (hc : 5 ≤ ci ∧ ci ≤ 9) (hlink : (Cond.fieldLink own index "PrimeProofs$Line" "n" "J").before args s = true) (hv : fs[0]? = some v) (hdg : decode cc pc = .ok (.getfield index, 3)) (kk : W p l e R s m args below meth c H locs cells slots Q (F0 m (pc + 3) ls (v :: rest))) : W p l e R s m args below meth c H locs cells slots Q (F0 m pc ls (.ref a :: rest)) := by
  rcases z5 hc with rfl | rfl | rfl | rfl | rfl
  · exact va_get (C := RX7) (T := TX7) (N := 8) hexec hb hts in_X7 hown hX.K (zrd_P hX hS hH hr) 0 rfl rfl 0 (by decide) hlink (fun _ hq => hq) hv hdg kk
  · exact va_get (C := RX9) (T := TX9) (N := 8) hexec hb hts in_X9 hown hX.K (zrd_P hX hS hH hr) 0 rfl rfl 0 (by decide) hlink (fun _ hq => hq) hv hdg kk
  · exact va_get (C := RX10) (T := TX10) (N := 8) hexec hb hts in_X10 hown hX.K (zrd_P hX hS hH hr) 0 rfl rfl 0 (by decide) hlink (fun _ hq => hq) hv hdg kk
  · exact va_get (C := RX11) (T := TX11) (N := 8) hexec hb hts in_X11 hown hX.K (zrd_P hX hS hH hr) 0 rfl rfl 0 (by decide) hlink (fun _ hq => hq) hv hdg kk
  · exact va_get (C := RX12) (T := TX12) (N := 8) hexec hb hts in_X12 hown hX.K (zrd_P hX hS hH hr) 0 rfl rfl 0 (by decide) hlink (fun _ hq => hq) hv hdg kk
theorem zL_get1 (hexec : p.tables.exec = Jvm.exec) (hb : c.code = cc) {own : String} {index ci : Nat} {fs : List Value} {v : Value} (hts : ∀ w ∈ lw_all, w.before args s = true) (hown : s.vm.findClass own = some m.cls) (hX : zX D cA ζ s) (hS : va_S (zA ζ) s.heap H locs) (hH : zH D cA ζ τ H) (hr : zrd ζ τ a = some (.inr (ci, fs))) (hc : 5 ≤ ci ∧ ci ≤ 9) (hlink : (Cond.fieldLink own index "PrimeProofs$Line" "sort" "I").before args s = true) (hv : fs[1]? = some v) (hdg : decode cc pc = .ok (.getfield index, 3)) (kk : W p l e R s m args below meth c H locs cells slots Q (F0 m (pc + 3) ls (v :: rest))) : W p l e R s m args below meth c H locs cells slots Q (F0 m pc ls (.ref a :: rest)) := by
  rcases z5 hc with rfl | rfl | rfl | rfl | rfl
  · exact va_get (C := RX7) (T := TX7) (N := 8) hexec hb hts in_X7 hown hX.K (zrd_P hX hS hH hr) 0 rfl rfl 1 (by decide) hlink (fun _ hq => hq) hv hdg kk
  · exact va_get (C := RX9) (T := TX9) (N := 8) hexec hb hts in_X9 hown hX.K (zrd_P hX hS hH hr) 0 rfl rfl 1 (by decide) hlink (fun _ hq => hq) hv hdg kk
  · exact va_get (C := RX10) (T := TX10) (N := 8) hexec hb hts in_X10 hown hX.K (zrd_P hX hS hH hr) 0 rfl rfl 1 (by decide) hlink (fun _ hq => hq) hv hdg kk
  · exact va_get (C := RX11) (T := TX11) (N := 8) hexec hb hts in_X11 hown hX.K (zrd_P hX hS hH hr) 0 rfl rfl 1 (by decide) hlink (fun _ hq => hq) hv hdg kk
  · exact va_get (C := RX12) (T := TX12) (N := 8) hexec hb hts in_X12 hown hX.K (zrd_P hX hS hH hr) 0 rfl rfl 1 (by decide) hlink (fun _ hq => hq) hv hdg kk
theorem zL_get2 (hexec : p.tables.exec = Jvm.exec) (hb : c.code = cc) {own : String} {index ci : Nat} {fs : List Value} {v : Value} (hts : ∀ w ∈ lw_all, w.before args s = true) (hown : s.vm.findClass own = some m.cls) (hX : zX D cA ζ s) (hS : va_S (zA ζ) s.heap H locs) (hH : zH D cA ζ τ H) (hr : zrd ζ τ a = some (.inr (ci, fs))) (hc : 5 ≤ ci ∧ ci ≤ 9) (hlink : (Cond.fieldLink own index "PrimeProofs$Line" "p" "I").before args s = true) (hv : fs[2]? = some v) (hdg : decode cc pc = .ok (.getfield index, 3)) (kk : W p l e R s m args below meth c H locs cells slots Q (F0 m (pc + 3) ls (v :: rest))) : W p l e R s m args below meth c H locs cells slots Q (F0 m pc ls (.ref a :: rest)) := by
  rcases z5 hc with rfl | rfl | rfl | rfl | rfl
  · exact va_get (C := RX7) (T := TX7) (N := 8) hexec hb hts in_X7 hown hX.K (zrd_P hX hS hH hr) 0 rfl rfl 2 (by decide) hlink (fun _ hq => hq) hv hdg kk
  · exact va_get (C := RX9) (T := TX9) (N := 8) hexec hb hts in_X9 hown hX.K (zrd_P hX hS hH hr) 0 rfl rfl 2 (by decide) hlink (fun _ hq => hq) hv hdg kk
  · exact va_get (C := RX10) (T := TX10) (N := 8) hexec hb hts in_X10 hown hX.K (zrd_P hX hS hH hr) 0 rfl rfl 2 (by decide) hlink (fun _ hq => hq) hv hdg kk
  · exact va_get (C := RX11) (T := TX11) (N := 8) hexec hb hts in_X11 hown hX.K (zrd_P hX hS hH hr) 0 rfl rfl 2 (by decide) hlink (fun _ hq => hq) hv hdg kk
  · exact va_get (C := RX12) (T := TX12) (N := 8) hexec hb hts in_X12 hown hX.K (zrd_P hX hS hH hr) 0 rfl rfl 2 (by decide) hlink (fun _ hq => hq) hv hdg kk
theorem zL_get3 (hexec : p.tables.exec = Jvm.exec) (hb : c.code = cc) {own : String} {index ci : Nat} {fs : List Value} {v : Value} (hts : ∀ w ∈ lw_all, w.before args s = true) (hown : s.vm.findClass own = some m.cls) (hX : zX D cA ζ s) (hS : va_S (zA ζ) s.heap H locs) (hH : zH D cA ζ τ H) (hr : zrd ζ τ a = some (.inr (ci, fs))) (hc : 5 ≤ ci ∧ ci ≤ 9) (hlink : (Cond.fieldLink own index "PrimeProofs$Line" "q" "I").before args s = true) (hv : fs[3]? = some v) (hdg : decode cc pc = .ok (.getfield index, 3)) (kk : W p l e R s m args below meth c H locs cells slots Q (F0 m (pc + 3) ls (v :: rest))) : W p l e R s m args below meth c H locs cells slots Q (F0 m pc ls (.ref a :: rest)) := by
  rcases z5 hc with rfl | rfl | rfl | rfl | rfl
  · exact va_get (C := RX7) (T := TX7) (N := 8) hexec hb hts in_X7 hown hX.K (zrd_P hX hS hH hr) 0 rfl rfl 3 (by decide) hlink (fun _ hq => hq) hv hdg kk
  · exact va_get (C := RX9) (T := TX9) (N := 8) hexec hb hts in_X9 hown hX.K (zrd_P hX hS hH hr) 0 rfl rfl 3 (by decide) hlink (fun _ hq => hq) hv hdg kk
  · exact va_get (C := RX10) (T := TX10) (N := 8) hexec hb hts in_X10 hown hX.K (zrd_P hX hS hH hr) 0 rfl rfl 3 (by decide) hlink (fun _ hq => hq) hv hdg kk
  · exact va_get (C := RX11) (T := TX11) (N := 8) hexec hb hts in_X11 hown hX.K (zrd_P hX hS hH hr) 0 rfl rfl 3 (by decide) hlink (fun _ hq => hq) hv hdg kk
  · exact va_get (C := RX12) (T := TX12) (N := 8) hexec hb hts in_X12 hown hX.K (zrd_P hX hS hH hr) 0 rfl rfl 3 (by decide) hlink (fun _ hq => hq) hv hdg kk
theorem zL_get4 (hexec : p.tables.exec = Jvm.exec) (hb : c.code = cc) {own : String} {index ci : Nat} {fs : List Value} {v : Value} (hts : ∀ w ∈ lw_all, w.before args s = true) (hown : s.vm.findClass own = some m.cls) (hX : zX D cA ζ s) (hS : va_S (zA ζ) s.heap H locs) (hH : zH D cA ζ τ H) (hr : zrd ζ τ a = some (.inr (ci, fs))) (hc : 5 ≤ ci ∧ ci ≤ 9) (hlink : (Cond.fieldLink own index "PrimeProofs$Line" "down" "LPrimeProofs$Rows;").before args s = true) (hv : fs[4]? = some v) (hdg : decode cc pc = .ok (.getfield index, 3)) (kk : W p l e R s m args below meth c H locs cells slots Q (F0 m (pc + 3) ls (v :: rest))) : W p l e R s m args below meth c H locs cells slots Q (F0 m pc ls (.ref a :: rest)) := by
  rcases z5 hc with rfl | rfl | rfl | rfl | rfl
  · exact va_get (C := RX7) (T := TX7) (N := 8) hexec hb hts in_X7 hown hX.K (zrd_P hX hS hH hr) 0 rfl rfl 4 (by decide) hlink (fun _ hq => hq) hv hdg kk
  · exact va_get (C := RX9) (T := TX9) (N := 8) hexec hb hts in_X9 hown hX.K (zrd_P hX hS hH hr) 0 rfl rfl 4 (by decide) hlink (fun _ hq => hq) hv hdg kk
  · exact va_get (C := RX10) (T := TX10) (N := 8) hexec hb hts in_X10 hown hX.K (zrd_P hX hS hH hr) 0 rfl rfl 4 (by decide) hlink (fun _ hq => hq) hv hdg kk
  · exact va_get (C := RX11) (T := TX11) (N := 8) hexec hb hts in_X11 hown hX.K (zrd_P hX hS hH hr) 0 rfl rfl 4 (by decide) hlink (fun _ hq => hq) hv hdg kk
  · exact va_get (C := RX12) (T := TX12) (N := 8) hexec hb hts in_X12 hown hX.K (zrd_P hX hS hH hr) 0 rfl rfl 4 (by decide) hlink (fun _ hq => hq) hv hdg kk
theorem zL_get5 (hexec : p.tables.exec = Jvm.exec) (hb : c.code = cc) {own : String} {index ci : Nat} {fs : List Value} {v : Value} (hts : ∀ w ∈ lw_all, w.before args s = true) (hown : s.vm.findClass own = some m.cls) (hX : zX D cA ζ s) (hS : va_S (zA ζ) s.heap H locs) (hH : zH D cA ζ τ H) (hr : zrd ζ τ a = some (.inr (ci, fs))) (hc : 5 ≤ ci ∧ ci ≤ 9) (hlink : (Cond.fieldLink own index "PrimeProofs$Line" "up" "LPrimeProofs$Rows;").before args s = true) (hv : fs[5]? = some v) (hdg : decode cc pc = .ok (.getfield index, 3)) (kk : W p l e R s m args below meth c H locs cells slots Q (F0 m (pc + 3) ls (v :: rest))) : W p l e R s m args below meth c H locs cells slots Q (F0 m pc ls (.ref a :: rest)) := by
  rcases z5 hc with rfl | rfl | rfl | rfl | rfl
  · exact va_get (C := RX7) (T := TX7) (N := 8) hexec hb hts in_X7 hown hX.K (zrd_P hX hS hH hr) 0 rfl rfl 5 (by decide) hlink (fun _ hq => hq) hv hdg kk
  · exact va_get (C := RX9) (T := TX9) (N := 8) hexec hb hts in_X9 hown hX.K (zrd_P hX hS hH hr) 0 rfl rfl 5 (by decide) hlink (fun _ hq => hq) hv hdg kk
  · exact va_get (C := RX10) (T := TX10) (N := 8) hexec hb hts in_X10 hown hX.K (zrd_P hX hS hH hr) 0 rfl rfl 5 (by decide) hlink (fun _ hq => hq) hv hdg kk
  · exact va_get (C := RX11) (T := TX11) (N := 8) hexec hb hts in_X11 hown hX.K (zrd_P hX hS hH hr) 0 rfl rfl 5 (by decide) hlink (fun _ hq => hq) hv hdg kk
  · exact va_get (C := RX12) (T := TX12) (N := 8) hexec hb hts in_X12 hown hX.K (zrd_P hX hS hH hr) 0 rfl rfl 5 (by decide) hlink (fun _ hq => hq) hv hdg kk
theorem zL_get6 (hexec : p.tables.exec = Jvm.exec) (hb : c.code = cc) {own : String} {index ci : Nat} {fs : List Value} {v : Value} (hts : ∀ w ∈ lw_all, w.before args s = true) (hown : s.vm.findClass own = some m.cls) (hX : zX D cA ζ s) (hS : va_S (zA ζ) s.heap H locs) (hH : zH D cA ζ τ H) (hr : zrd ζ τ a = some (.inr (ci, fs))) (hc : 5 ≤ ci ∧ ci ≤ 9) (hlink : (Cond.fieldLink own index "PrimeProofs$Line" "this$0" "LPrimeProofs;").before args s = true) (hv : fs[6]? = some v) (hdg : decode cc pc = .ok (.getfield index, 3)) (kk : W p l e R s m args below meth c H locs cells slots Q (F0 m (pc + 3) ls (v :: rest))) : W p l e R s m args below meth c H locs cells slots Q (F0 m pc ls (.ref a :: rest)) := by
  rcases z5 hc with rfl | rfl | rfl | rfl | rfl
  · exact va_get (C := RX7) (T := TX7) (N := 8) hexec hb hts in_X7 hown hX.K (zrd_P hX hS hH hr) 0 rfl rfl 6 (by decide) hlink (fun _ hq => hq) hv hdg kk
  · exact va_get (C := RX9) (T := TX9) (N := 8) hexec hb hts in_X9 hown hX.K (zrd_P hX hS hH hr) 0 rfl rfl 6 (by decide) hlink (fun _ hq => hq) hv hdg kk
  · exact va_get (C := RX10) (T := TX10) (N := 8) hexec hb hts in_X10 hown hX.K (zrd_P hX hS hH hr) 0 rfl rfl 6 (by decide) hlink (fun _ hq => hq) hv hdg kk
  · exact va_get (C := RX11) (T := TX11) (N := 8) hexec hb hts in_X11 hown hX.K (zrd_P hX hS hH hr) 0 rfl rfl 6 (by decide) hlink (fun _ hq => hq) hv hdg kk
  · exact va_get (C := RX12) (T := TX12) (N := 8) hexec hb hts in_X12 hown hX.K (zrd_P hX hS hH hr) 0 rfl rfl 6 (by decide) hlink (fun _ hq => hq) hv hdg kk
theorem zL_put0 (hexec : p.tables.exec = Jvm.exec) (hb : c.code = cc) {own : String} {index ci : Nat} {fs : List Value} {x : Int64} (hts : ∀ w ∈ lw_all, w.before args s = true) (hown : s.vm.findClass own = some m.cls) (hX : zX D cA ζ s) (hH : zH D cA ζ τ H) (hS : va_S (zA ζ) s.heap H locs) (ha : ζ.1 ≤ a ∧ a < τ.1) (he : τ.2.2 a = .inr (ci, fs)) (hc : 5 ≤ ci ∧ ci ≤ 9) (hlink : (Cond.fieldLink own index "PrimeProofs$Line" "n" "J").before args s = true) (hl : 0 < fs.length) (hdg : decode cc pc = .ok (.putfield index, 3)) (kk : ∀ (H1 : Heap) (locs1 : List Loc), va_P D zCl ((zw cA ζ.1 τ).set (a - ζ.1) (a, .inr (ci, fs.set 0 (.long x)))) H1 → va_S (zA ζ) s.heap H1 locs1 → W p l e R s m args below meth c H1 locs1 cells slots Q (F0 m (pc + 3) ls rest)) : W p l e R s m args below meth c H locs cells slots Q (F0 m pc ls (.long x :: .ref a :: rest)) := by
  rcases z5 hc with rfl | rfl | rfl | rfl | rfl
  · exact zq_put (C := RX7) (T := TX7) (N := 8) hexec hb hts in_X7 tyX7 tyX7_ok nmX7 hown hX.K hH.2.2 zw_D hS _ (zw_o ha he) rfl 0 (by decide) hlink (fun _ hq => hq) rfl rfl rfl rfl hl hdg (fun H1 locs1 hP1 _ hS1 => kk H1 locs1 hP1 hS1)
  · exact zq_put (C := RX9) (T := TX9) (N := 8) hexec hb hts in_X9 tyX9 tyX9_ok nmX9 hown hX.K hH.2.2 zw_D hS _ (zw_o ha he) rfl 0 (by decide) hlink (fun _ hq => hq) rfl rfl rfl rfl hl hdg (fun H1 locs1 hP1 _ hS1 => kk H1 locs1 hP1 hS1)
  · exact zq_put (C := RX10) (T := TX10) (N := 8) hexec hb hts in_X10 tyX10 tyX10_ok nmX10 hown hX.K hH.2.2 zw_D hS _ (zw_o ha he) rfl 0 (by decide) hlink (fun _ hq => hq) rfl rfl rfl rfl hl hdg (fun H1 locs1 hP1 _ hS1 => kk H1 locs1 hP1 hS1)
  · exact zq_put (C := RX11) (T := TX11) (N := 8) hexec hb hts in_X11 tyX11 tyX11_ok nmX11 hown hX.K hH.2.2 zw_D hS _ (zw_o ha he) rfl 0 (by decide) hlink (fun _ hq => hq) rfl rfl rfl rfl hl hdg (fun H1 locs1 hP1 _ hS1 => kk H1 locs1 hP1 hS1)
  · exact zq_put (C := RX12) (T := TX12) (N := 8) hexec hb hts in_X12 tyX12 tyX12_ok nmX12 hown hX.K hH.2.2 zw_D hS _ (zw_o ha he) rfl 0 (by decide) hlink (fun _ hq => hq) rfl rfl rfl rfl hl hdg (fun H1 locs1 hP1 _ hS1 => kk H1 locs1 hP1 hS1)
theorem zL_put2 (hexec : p.tables.exec = Jvm.exec) (hb : c.code = cc) {own : String} {index ci : Nat} {fs : List Value} {x : Int32} (hts : ∀ w ∈ lw_all, w.before args s = true) (hown : s.vm.findClass own = some m.cls) (hX : zX D cA ζ s) (hH : zH D cA ζ τ H) (hS : va_S (zA ζ) s.heap H locs) (ha : ζ.1 ≤ a ∧ a < τ.1) (he : τ.2.2 a = .inr (ci, fs)) (hc : 5 ≤ ci ∧ ci ≤ 9) (hlink : (Cond.fieldLink own index "PrimeProofs$Line" "p" "I").before args s = true) (hl : 2 < fs.length) (hdg : decode cc pc = .ok (.putfield index, 3)) (kk : ∀ (H1 : Heap) (locs1 : List Loc), va_P D zCl ((zw cA ζ.1 τ).set (a - ζ.1) (a, .inr (ci, fs.set 2 (.int x)))) H1 → va_S (zA ζ) s.heap H1 locs1 → W p l e R s m args below meth c H1 locs1 cells slots Q (F0 m (pc + 3) ls rest)) : W p l e R s m args below meth c H locs cells slots Q (F0 m pc ls (.int x :: .ref a :: rest)) := by
  rcases z5 hc with rfl | rfl | rfl | rfl | rfl
  · exact zq_put (C := RX7) (T := TX7) (N := 8) hexec hb hts in_X7 tyX7 tyX7_ok nmX7 hown hX.K hH.2.2 zw_D hS _ (zw_o ha he) rfl 2 (by decide) hlink (fun _ hq => hq) rfl rfl rfl rfl hl hdg (fun H1 locs1 hP1 _ hS1 => kk H1 locs1 hP1 hS1)
  · exact zq_put (C := RX9) (T := TX9) (N := 8) hexec hb hts in_X9 tyX9 tyX9_ok nmX9 hown hX.K hH.2.2 zw_D hS _ (zw_o ha he) rfl 2 (by decide) hlink (fun _ hq => hq) rfl rfl rfl rfl hl hdg (fun H1 locs1 hP1 _ hS1 => kk H1 locs1 hP1 hS1)
  · exact zq_put (C := RX10) (T := TX10) (N := 8) hexec hb hts in_X10 tyX10 tyX10_ok nmX10 hown hX.K hH.2.2 zw_D hS _ (zw_o ha he) rfl 2 (by decide) hlink (fun _ hq => hq) rfl rfl rfl rfl hl hdg (fun H1 locs1 hP1 _ hS1 => kk H1 locs1 hP1 hS1)
  · exact zq_put (C := RX11) (T := TX11) (N := 8) hexec hb hts in_X11 tyX11 tyX11_ok nmX11 hown hX.K hH.2.2 zw_D hS _ (zw_o ha he) rfl 2 (by decide) hlink (fun _ hq => hq) rfl rfl rfl rfl hl hdg (fun H1 locs1 hP1 _ hS1 => kk H1 locs1 hP1 hS1)
  · exact zq_put (C := RX12) (T := TX12) (N := 8) hexec hb hts in_X12 tyX12 tyX12_ok nmX12 hown hX.K hH.2.2 zw_D hS _ (zw_o ha he) rfl 2 (by decide) hlink (fun _ hq => hq) rfl rfl rfl rfl hl hdg (fun H1 locs1 hP1 _ hS1 => kk H1 locs1 hP1 hS1)
theorem zL_put3 (hexec : p.tables.exec = Jvm.exec) (hb : c.code = cc) {own : String} {index ci : Nat} {fs : List Value} {x : Int32} (hts : ∀ w ∈ lw_all, w.before args s = true) (hown : s.vm.findClass own = some m.cls) (hX : zX D cA ζ s) (hH : zH D cA ζ τ H) (hS : va_S (zA ζ) s.heap H locs) (ha : ζ.1 ≤ a ∧ a < τ.1) (he : τ.2.2 a = .inr (ci, fs)) (hc : 5 ≤ ci ∧ ci ≤ 9) (hlink : (Cond.fieldLink own index "PrimeProofs$Line" "q" "I").before args s = true) (hl : 3 < fs.length) (hdg : decode cc pc = .ok (.putfield index, 3)) (kk : ∀ (H1 : Heap) (locs1 : List Loc), va_P D zCl ((zw cA ζ.1 τ).set (a - ζ.1) (a, .inr (ci, fs.set 3 (.int x)))) H1 → va_S (zA ζ) s.heap H1 locs1 → W p l e R s m args below meth c H1 locs1 cells slots Q (F0 m (pc + 3) ls rest)) : W p l e R s m args below meth c H locs cells slots Q (F0 m pc ls (.int x :: .ref a :: rest)) := by
  rcases z5 hc with rfl | rfl | rfl | rfl | rfl
  · exact zq_put (C := RX7) (T := TX7) (N := 8) hexec hb hts in_X7 tyX7 tyX7_ok nmX7 hown hX.K hH.2.2 zw_D hS _ (zw_o ha he) rfl 3 (by decide) hlink (fun _ hq => hq) rfl rfl rfl rfl hl hdg (fun H1 locs1 hP1 _ hS1 => kk H1 locs1 hP1 hS1)
  · exact zq_put (C := RX9) (T := TX9) (N := 8) hexec hb hts in_X9 tyX9 tyX9_ok nmX9 hown hX.K hH.2.2 zw_D hS _ (zw_o ha he) rfl 3 (by decide) hlink (fun _ hq => hq) rfl rfl rfl rfl hl hdg (fun H1 locs1 hP1 _ hS1 => kk H1 locs1 hP1 hS1)
  · exact zq_put (C := RX10) (T := TX10) (N := 8) hexec hb hts in_X10 tyX10 tyX10_ok nmX10 hown hX.K hH.2.2 zw_D hS _ (zw_o ha he) rfl 3 (by decide) hlink (fun _ hq => hq) rfl rfl rfl rfl hl hdg (fun H1 locs1 hP1 _ hS1 => kk H1 locs1 hP1 hS1)
  · exact zq_put (C := RX11) (T := TX11) (N := 8) hexec hb hts in_X11 tyX11 tyX11_ok nmX11 hown hX.K hH.2.2 zw_D hS _ (zw_o ha he) rfl 3 (by decide) hlink (fun _ hq => hq) rfl rfl rfl rfl hl hdg (fun H1 locs1 hP1 _ hS1 => kk H1 locs1 hP1 hS1)
  · exact zq_put (C := RX12) (T := TX12) (N := 8) hexec hb hts in_X12 tyX12 tyX12_ok nmX12 hown hX.K hH.2.2 zw_D hS _ (zw_o ha he) rfl 3 (by decide) hlink (fun _ hq => hq) rfl rfl rfl rfl hl hdg (fun H1 locs1 hP1 _ hS1 => kk H1 locs1 hP1 hS1)
theorem zL_cast (hexec : p.tables.exec = Jvm.exec) (hb : c.code = cc) {own : String} {index ci : Nat} {fs : List Value} (hown : s.vm.findClass own = some m.cls) (hlink : (Cond.classLink own index "PrimeProofs$Line").before args s = true) (hX : zX D cA ζ s) (hS : va_S (zA ζ) s.heap H locs) (hH : zH D cA ζ τ H) (hr : zrd ζ τ a = some (.inr (ci, fs))) (hc : 5 ≤ ci ∧ ci ≤ 9) (hdg : decode cc pc = .ok (.checkcast index, 3)) (kk : W p l e R s m args below meth c H locs cells slots Q (F0 m (pc + 3) ls (.ref a :: rest))) : W p l e R s m args below meth c H locs cells slots Q (F0 m pc ls (.ref a :: rest)) := by
  rcases z5 hc with rfl | rfl | rfl | rfl | rfl
  · exact va_castY (C := RX7) hexec hb hown hlink (hX.N q2218 rfl) (va_recv hX.K (zrd_P hX hS hH hr) (ci := 5) (q0 := 0) rfl rfl) hdg kk
  · exact va_castY (C := RX9) hexec hb hown hlink (hX.N q2217 rfl) (va_recv hX.K (zrd_P hX hS hH hr) (ci := 6) (q0 := 0) rfl rfl) hdg kk
  · exact va_castY (C := RX10) hexec hb hown hlink (hX.N q2216 rfl) (va_recv hX.K (zrd_P hX hS hH hr) (ci := 7) (q0 := 0) rfl rfl) hdg kk
  · exact va_castY (C := RX11) hexec hb hown hlink (hX.N q2215 rfl) (va_recv hX.K (zrd_P hX hS hH hr) (ci := 8) (q0 := 0) rfl rfl) hdg kk
  · exact va_castY (C := RX12) hexec hb hown hlink (hX.N q2214 rfl) (va_recv hX.K (zrd_P hX hS hH hr) (ci := 9) (q0 := 0) rfl rfl) hdg kk
theorem zL_ast (hexec : p.tables.exec = Jvm.exec) (hb : c.code = cc) {ci n v : Nat} {vs : List Value} {f : Nat → Option Nat} {i : Int32} (hX : zX D cA ζ s) (hH : zH D cA ζ τ H) (hS : va_S (zA ζ) s.heap H locs) (he : (zw cA ζ.1 τ)[a - ζ.1]? = some (a, .inl (cA 4, n, .inr (.inr (.inr (.inr f)))))) (hv : ζ.1 ≤ v ∧ v < τ.1) (hve : τ.2.2 v = .inr (ci, vs)) (hc : 5 ≤ ci ∧ ci ≤ 9) (hin : vp_in i n) (hdg : decode cc pc = .ok (.aastore, 1)) (kk : ∀ (H1 : Heap) (locs1 : List Loc), va_P D zCl ((zw cA ζ.1 τ).set (a - ζ.1) (a, .inl (cA 4, n, .inr (.inr (.inr (.inr (va_up f i.toNatClampNeg (some v)))))))) H1 → va_S (zA ζ) s.heap H1 locs1 → W p l e R s m args below meth c H1 locs1 cells slots Q (F0 m (pc + 1) ls rest)) : W p l e R s m args below meth c H locs cells slots Q (F0 m pc ls (.ref v :: .int i :: .ref a :: rest)) := by
  rcases z5 hc with rfl | rfl | rfl | rfl | rfl
  · exact va_astqO hexec hb hX.K hH.2.2 zw_D hS _ 4 _ 5 (r := (RX7, TX7, 8)) he rfl (hX.N q2226 rfl) (zw_o hv hve) rfl hin hdg (fun H1 locs1 hP1 _ hS1 => kk H1 locs1 hP1 hS1)
  · exact va_astqO hexec hb hX.K hH.2.2 zw_D hS _ 4 _ 6 (r := (RX9, TX9, 8)) he rfl (hX.N q2228 rfl) (zw_o hv hve) rfl hin hdg (fun H1 locs1 hP1 _ hS1 => kk H1 locs1 hP1 hS1)
  · exact va_astqO hexec hb hX.K hH.2.2 zw_D hS _ 4 _ 7 (r := (RX10, TX10, 8)) he rfl (hX.N q2229 rfl) (zw_o hv hve) rfl hin hdg (fun H1 locs1 hP1 _ hS1 => kk H1 locs1 hP1 hS1)
  · exact va_astqO hexec hb hX.K hH.2.2 zw_D hS _ 4 _ 8 (r := (RX11, TX11, 8)) he rfl (hX.N q2230 rfl) (zw_o hv hve) rfl hin hdg (fun H1 locs1 hP1 _ hS1 => kk H1 locs1 hP1 hS1)
  · exact va_astqO hexec hb hX.K hH.2.2 zw_D hS _ 4 _ 9 (r := (RX12, TX12, 8)) he rfl (hX.N q2231 rfl) (zw_o hv hve) rfl hin hdg (fun H1 locs1 hP1 _ hS1 => kk H1 locs1 hP1 hS1)
theorem zq_alen (hexec : p.tables.exec = Jvm.exec) (hb : c.code = cc) {n : Nat} (hX : zX D cA ζ s) (hS : va_S (zA ζ) s.heap H locs) (hH : zH D cA ζ τ H) (hn : zlenq ζ τ a = some n) (hdg : decode cc pc = .ok (.arraylength, 1)) (kk : W p l e R s m args below meth c H locs cells slots Q (F0 m (pc + 1) ls (.int (Int32.ofNat n) :: rest))) : W p l e R s m args below meth c H locs cells slots Q (F0 m pc ls (.ref a :: rest)) := by
  unfold zlenq at hn
  by_cases ha : a = ζ.2.2.2 0
  · rw [if_pos ha] at hn
    cases hn
    subst ha
    obtain ⟨cell, h1, h2, h3, h4, h5, h6, h7⟩ := hX.st.1.2.1.kept hS.2.1
    exact W.alen hexec hb h1 h2 h5 rfl rfl hdg kk
  · rw [if_neg ha] at hn
    split at hn
    · rename_i q e
      cases hn
      obtain ⟨n, f⟩ := q
      exact va_alen (v := Int32.ofNat n) hexec hb hX.K (zrd_P hX hS hH (zaq_o e)) 0 4 rfl rfl rfl hdg kk
    · cases hn
theorem z_anyL {y ci : Nat} {fs : List Value} (hX : zX D cA ζ s) (hS : va_S (zA ζ) s.heap H locs) (hH : zH D cA ζ τ H) (h : zoL ζ τ y = some (ci, fs)) : va_Any "java/lang/Object" s H y := by
  obtain ⟨hr, hc⟩ := zoL_o h
  rcases z5 hc with rfl | rfl | rfl | rfl | rfl
  · exact va_rAny (r := (RX7, TX7, 8)) hX.K (zrd_P hX hS hH hr) (q0 := 0) rfl rfl (fun comp c0 h1 h2 => z_asg (hX.N q2226 rfl) h1 h2)
  · exact va_rAny (r := (RX9, TX9, 8)) hX.K (zrd_P hX hS hH hr) (q0 := 0) rfl rfl (fun comp c0 h1 h2 => z_asg (hX.N q2228 rfl) h1 h2)
  · exact va_rAny (r := (RX10, TX10, 8)) hX.K (zrd_P hX hS hH hr) (q0 := 0) rfl rfl (fun comp c0 h1 h2 => z_asg (hX.N q2229 rfl) h1 h2)
  · exact va_rAny (r := (RX11, TX11, 8)) hX.K (zrd_P hX hS hH hr) (q0 := 0) rfl rfl (fun comp c0 h1 h2 => z_asg (hX.N q2230 rfl) h1 h2)
  · exact va_rAny (r := (RX12, TX12, 8)) hX.K (zrd_P hX hS hH hr) (q0 := 0) rfl rfl (fun comp c0 h1 h2 => z_asg (hX.N q2231 rfl) h1 h2)
theorem z_arrC {n : Nat} {f : Nat → Option Nat} (hX : zX D cA ζ s) (hS : va_S (zA ζ) s.heap H locs) (hH : zH D cA ζ τ H) (h : zrd ζ τ a = some (.inl (4, n, .inr (.inr (.inr (.inr f)))))) : ∃ cell : Cell, H[a]? = some cell ∧ cell.vm.isStatics = false ∧ s.vm.findClass "[Ljava/lang/Object;" = some cell.cls :=
  ⟨_, zrd_P hX hS hH h 0 _ rfl, rfl, va_nmO (hX.K.2 4 _ rfl).2 rfl⟩
end ZL
