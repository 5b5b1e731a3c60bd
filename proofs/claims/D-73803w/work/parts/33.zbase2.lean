theorem zcwP {R : Room} {s : State} {args : Array Value} {own C owner : String} {idx maxL mc ms : Nat} {x y : MethodName} {b : ByteArray} {r : Option FieldType} {rm : Room} (n : Nat) (hts : ∀ w ∈ lw_all, w.before args s = true) (hsel : va_Nw (.selects C x y) s) (h1 : Cond.methodLink own idx x ∈ lw_all) (h2 : Cond.sameMethod x.cls owner x.name x.desc ∈ lw_all) (h4 : Cond.instanceMethod y ∈ lw_all) (h5 : Cond.initialized y.cls ∈ lw_all) (h6 : Cond.code y b maxL r ∈ lw_all) (hrc : rm.cells = mc) (hrs : rm.slots = ms)
    (hyx : y = ⟨owner, x.name, x.desc⟩) (hd : owner ≠ "java/lang/invoke/MethodHandle" ∧ owner ≠ "java/lang/invoke/VarHandle" ∧ (parseMethodDescriptor x.desc).map (fun d => d.parameters.length) = some n) (hR : rm.frames + 1 ≤ R.frames ∧ 8 + (maxL + 11) + rm.locals ≤ R.locals) : va_CU R s args own C owner idx x y b maxL r (ws_ y b maxL r) rm mc ms n := by
  have ht : ∀ w ∈ Cond.selects C x y :: lw_all, w.before args s = true := by
    intro w hw
    rcases List.mem_cons.mp hw with e | e
    · rw [e]; exact hsel.use rfl
    · exact hts w e
  refine va_cwU n ht ?_ rfl hrc hrs hyx hd hR
  intro w hw
  have up : ∀ {w : Cond}, w ∈ lw_all → w ∈ Cond.selects C x y :: lw_all := fun h => List.mem_cons_of_mem _ h
  unfold va_wsU at hw
  rcases List.mem_append.mp hw with hw | hw
  · simp only [List.mem_cons, List.not_mem_nil, or_false] at hw
    rcases hw with e | e | e | e | e
    · rw [e]; exact ⟨up h1, (lw_self _ h1).2⟩
    · rw [e]; exact ⟨up h2, (lw_self _ h2).2⟩
    · rw [e]; exact ⟨List.mem_cons_self, good_of_word rfl⟩
    · rw [e]; exact ⟨up h4, (lw_self _ h4).2⟩
    · rw [e]; exact ⟨up h5, (lw_self _ h5).2⟩
  · exact ⟨up (lw_meth h6 w hw).1, (lw_meth h6 w hw).2⟩
def dz_o {α β : Type} (o : Option α) (f : α → β) (b : β) : β := match o with
  | some a => f a
  | none => b
theorem dz_oc {α β : Type} {o : Option α} {f : α → β} {b r : β} {G : Prop} (h : dz_o o f b = r) (h1 : ∀ a, o = some a → f a = r → G) (h2 : o = none → b = r → G) : G := by
  cases o with
  | none => exact h2 rfl h
  | some a => exact h1 a rfl h
theorem zO_in {own C owner : String} {idx : Nat} {x y : MethodName} {b : ByteArray} {L : Nat} {r : Option FieldType} (h1 : Cond.methodLink own idx x ∈ lw_all) (h2 : Cond.sameMethod x.cls owner x.name x.desc ∈ lw_all) (h7 : Cond.instanceMethod ⟨owner, x.name, x.desc⟩ ∈ lw_all) (h3 : Cond.selects C x y ∈ lw_all) (h4 : Cond.instanceMethod y ∈ lw_all) (h5 : Cond.initialized y.cls ∈ lw_all) (h6 : Cond.code y b L r ∈ lw_all) : GoodIn lw_all (va_wsO own idx C owner x y (ws_ y b L r)) := by
  refine lw_app ?_ (lw_meth h6)
  intro w hw
  simp only [List.mem_cons, List.not_mem_nil, or_false] at hw
  rcases hw with e | e | e | e | e | e
  · rw [e]; exact h1
  · rw [e]; exact h2
  · rw [e]; exact h7
  · rw [e]; exact h3
  · rw [e]; exact h4
  · rw [e]; exact h5
theorem z_at {D : va_G} {cA : Nat → ClassId} {ζ : pZ} {τ : pH} {H H1 : Heap} (e : H1 = H) (h : zH D cA ζ τ H) : zH D cA ζ τ H1 := by rw [e]; exact h
theorem z_gen {p : Program} {l : Launch} {e : Env} {R : Room} {s : State} {m : MethodId} {args : Array Value} {below : List Frame} {meth : Method} {c : Code} {H : Heap} {locs : List Loc} {Q : State → Prop} {g : JFrame} (k : ∀ cells slots : Nat, cells = 0 → slots = 0 → W p l e R s m args below meth c H locs cells slots Q g) : W p l e R s m args below meth c H locs 0 0 Q g := k 0 0 rfl rfl
theorem zU_in {own C owner : String} {idx : Nat} {x y : MethodName} {b : ByteArray} {L : Nat} {r : Option FieldType} (h1 : Cond.methodLink own idx x ∈ lw_all) (h2 : Cond.sameMethod x.cls owner x.name x.desc ∈ lw_all) (h3 : Cond.selects C x y ∈ lw_all) (h4 : Cond.instanceMethod y ∈ lw_all) (h5 : Cond.initialized y.cls ∈ lw_all) (h6 : Cond.code y b L r ∈ lw_all) : GoodIn lw_all (va_wsU own idx C owner x y (ws_ y b L r)) := by
  refine lw_app ?_ (lw_meth h6)
  intro w hw
  simp only [List.mem_cons, List.not_mem_nil, or_false] at hw
  rcases hw with e | e | e | e | e
  · rw [e]; exact h1
  · rw [e]; exact h2
  · rw [e]; exact h3
  · rw [e]; exact h4
  · rw [e]; exact h5
theorem zF_in {own C : String} {idx : Nat} {x y : MethodName} {b : ByteArray} {L : Nat} {r : Option FieldType} (h1 : Cond.methodLink own idx x ∈ lw_all) (h3 : Cond.selects C x y ∈ lw_all) (h4 : Cond.instanceMethod y ∈ lw_all) (h5 : Cond.initialized y.cls ∈ lw_all) (h6 : Cond.code y b L r ∈ lw_all) : GoodIn lw_all (va_wsF own idx C x y (ws_ y b L r)) := by
  refine lw_app ?_ (lw_meth h6)
  intro w hw
  simp only [List.mem_cons, List.not_mem_nil, or_false] at hw
  rcases hw with e | e | e | e
  · rw [e]; exact h1
  · rw [e]; exact h3
  · rw [e]; exact h4
  · rw [e]; exact h5
theorem zdf_X0 : ∀ j, j < 7 → defaultValue (tyX0 j) = vp_V [.null, .null, .int 0, .null, .int 0, .null, .null] j := by
  intro j hj
  match j, hj with
  | 0, _ => rfl
  | 1, _ => rfl
  | 2, _ => rfl
  | 3, _ => rfl
  | 4, _ => rfl
  | 5, _ => rfl
  | 6, _ => rfl
  | n + 7, h => exact absurd h (by omega)
theorem zdf_X2 : ∀ j, j < 2 → defaultValue (tyX2 j) = vp_V [.int 0, .null] j := by
  intro j hj
  match j, hj with
  | 0, _ => rfl
  | 1, _ => rfl
  | n + 2, h => exact absurd h (by omega)
theorem zdf_X4 : ∀ j, j < 3 → defaultValue (tyX4 j) = vp_V [.long 0, .long 0, .long 0] j := by
  intro j hj
  match j, hj with
  | 0, _ => rfl
  | 1, _ => rfl
  | 2, _ => rfl
  | n + 3, h => exact absurd h (by omega)
theorem zdf_X5 : ∀ j, j < 5 → defaultValue (tyX5 j) = vp_V [.long 0, .long 0, .long 0, .long 0, .long 0] j := by
  intro j hj
  match j, hj with
  | 0, _ => rfl
  | 1, _ => rfl
  | 2, _ => rfl
  | 3, _ => rfl
  | 4, _ => rfl
  | n + 5, h => exact absurd h (by omega)
theorem zdf_X7 : ∀ j, j < 8 → defaultValue (tyX7 j) = vp_V [.long 0, .int 0, .int 0, .int 0, .null, .null, .null, .null] j := by
  intro j hj
  match j, hj with
  | 0, _ => rfl
  | 1, _ => rfl
  | 2, _ => rfl
  | 3, _ => rfl
  | 4, _ => rfl
  | 5, _ => rfl
  | 6, _ => rfl
  | 7, _ => rfl
  | n + 8, h => exact absurd h (by omega)
theorem zdf_X9 : ∀ j, j < 8 → defaultValue (tyX9 j) = vp_V [.long 0, .int 0, .int 0, .int 0, .null, .null, .null, .null] j := by
  intro j hj
  match j, hj with
  | 0, _ => rfl
  | 1, _ => rfl
  | 2, _ => rfl
  | 3, _ => rfl
  | 4, _ => rfl
  | 5, _ => rfl
  | 6, _ => rfl
  | 7, _ => rfl
  | n + 8, h => exact absurd h (by omega)
theorem zdf_X10 : ∀ j, j < 8 → defaultValue (tyX10 j) = vp_V [.long 0, .int 0, .int 0, .int 0, .null, .null, .null, .null] j := by
  intro j hj
  match j, hj with
  | 0, _ => rfl
  | 1, _ => rfl
  | 2, _ => rfl
  | 3, _ => rfl
  | 4, _ => rfl
  | 5, _ => rfl
  | 6, _ => rfl
  | 7, _ => rfl
  | n + 8, h => exact absurd h (by omega)
theorem zdf_X11 : ∀ j, j < 8 → defaultValue (tyX11 j) = vp_V [.long 0, .int 0, .int 0, .int 0, .null, .null, .null, .null] j := by
  intro j hj
  match j, hj with
  | 0, _ => rfl
  | 1, _ => rfl
  | 2, _ => rfl
  | 3, _ => rfl
  | 4, _ => rfl
  | 5, _ => rfl
  | 6, _ => rfl
  | 7, _ => rfl
  | n + 8, h => exact absurd h (by omega)
theorem zdf_X12 : ∀ j, j < 8 → defaultValue (tyX12 j) = vp_V [.long 0, .int 0, .int 0, .int 0, .null, .null, .null, .null] j := by
  intro j hj
  match j, hj with
  | 0, _ => rfl
  | 1, _ => rfl
  | 2, _ => rfl
  | 3, _ => rfl
  | 4, _ => rfl
  | 5, _ => rfl
  | 6, _ => rfl
  | 7, _ => rfl
  | n + 8, h => exact absurd h (by omega)
theorem zdf_X8 : ∀ j, j < 2 → defaultValue (tyX8 j) = vp_V [.null, .int 0] j := by
  intro j hj
  match j, hj with
  | 0, _ => rfl
  | 1, _ => rfl
  | n + 2, h => exact absurd h (by omega)
theorem zdf_X13 : ∀ j, j < 3 → defaultValue (tyX13 j) = vp_V [.long 0, .int 0, .int 0] j := by
  intro j hj
  match j, hj with
  | 0, _ => rfl
  | 1, _ => rfl
  | 2, _ => rfl
  | n + 3, h => exact absurd h (by omega)
theorem zdf_X14 : ∀ j, j < 6 → defaultValue (tyX14 j) = vp_V [.int 0, .int 0, .int 0, .null, .long 0, .null] j := by
  intro j hj
  match j, hj with
  | 0, _ => rfl
  | 1, _ => rfl
  | 2, _ => rfl
  | 3, _ => rfl
  | 4, _ => rfl
  | 5, _ => rfl
  | n + 6, h => exact absurd h (by omega)
theorem zdf_X15 : ∀ j, j < 7 → defaultValue (tyX15 j) = vp_V [.null, .null, .null, .null, .null, .int 0, .int 0] j := by
  intro j hj
  match j, hj with
  | 0, _ => rfl
  | 1, _ => rfl
  | 2, _ => rfl
  | 3, _ => rfl
  | 4, _ => rfl
  | 5, _ => rfl
  | 6, _ => rfl
  | n + 7, h => exact absurd h (by omega)
theorem zdf_J2 : ∀ j, j < 3 → defaultValue (tyJ2 j) = vp_V [.int 0, .null, .int 0] j := by
  intro j hj
  match j, hj with
  | 0, _ => rfl
  | 1, _ => rfl
  | 2, _ => rfl
  | n + 3, h => exact absurd h (by omega)
theorem zdf_J15 : ∀ j, j < 4 → defaultValue (tyJ15 j) = vp_V [.int 0, .int 0, .int 0, .null] j := by
  intro j hj
  match j, hj with
  | 0, _ => rfl
  | 1, _ => rfl
  | 2, _ => rfl
  | 3, _ => rfl
  | n + 4, h => exact absurd h (by omega)
theorem zdf_J8 : ∀ j, j < 4 → defaultValue (tyJ8 j) = vp_V [.null, .int 0, .int 0, .int 0] j := by
  intro j hj
  match j, hj with
  | 0, _ => rfl
  | 1, _ => rfl
  | 2, _ => rfl
  | 3, _ => rfl
  | n + 4, h => exact absurd h (by omega)
theorem zdf_J12 : ∀ j, j < 4 → defaultValue (tyJ12 j) = vp_V [.null, .int 0, .int 0, .int 0] j := by
  intro j hj
  match j, hj with
  | 0, _ => rfl
  | 1, _ => rfl
  | 2, _ => rfl
  | 3, _ => rfl
  | n + 4, h => exact absurd h (by omega)
