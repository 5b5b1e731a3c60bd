/-! small words for pure programs: what decomp.py prints -/
def dz_l {α β : Type} (v : α) (f : α → β) : β := f v
theorem dz_ls {α β : Type} {x v : α} {f : α → β} {r : β} (e : x = v) (h : dz_l v f = r) : f x = r := by rw [e]; exact h
theorem dz_lo {α β : Type} {v : α} {f : α → β} {r : β} (h : dz_l v f = r) : ∃ x, x = v ∧ f x = r := ⟨v, rfl, h⟩
def dz_b {α γ : Type} (o : Option α) (f : α → Option γ) : Option γ := match o with
  | none => none
  | some x => f x
theorem dz_bo {α γ : Type} {o : Option α} {f : α → Option γ} {r : γ} (h : dz_b o f = some r) : ∃ x, o = some x ∧ f x = some r := by
  cases o with
  | none => cases h
  | some x => exact ⟨x, rfl, h⟩
def dz_c {α β γ : Type} (o : Option (α × β)) (f : α → β → Option γ) : Option γ := match o with
  | none => none
  | some x => f x.1 x.2
theorem dz_co {α β γ : Type} {o : Option (α × β)} {f : α → β → Option γ} {r : γ} (h : dz_c o f = some r) : ∃ x y, o = some (x, y) ∧ f x y = some r := by
  cases o with
  | none => cases h
  | some x => exact ⟨x.1, x.2, rfl, h⟩
theorem dz_go {γ : Type} {q : Prop} {d : Decidable q} {a : Option γ} {r : γ} (h : @ite _ q d a none = some r) : q ∧ a = some r := by
  by_cases hq : q
  · rw [if_pos hq] at h; exact ⟨hq, h⟩
  · rw [if_neg hq] at h; cases h
theorem dz_t {γ : Type} {q : Prop} {d : Decidable q} {a b r : γ} (hq : q) (h : @ite _ q d a b = r) : a = r := by rwa [if_pos hq] at h
theorem dz_f {γ : Type} {q : Prop} {d : Decidable q} {a b r : γ} (hq : ¬ q) (h : @ite _ q d a b = r) : b = r := by rwa [if_neg hq] at h
theorem dz_case {γ : Type} {q : Prop} {d : Decidable q} {a b r : γ} {G : Prop} (h : @ite _ q d a b = r) (h1 : q → a = r → G) (h2 : ¬ q → b = r → G) : G := by
  by_cases hq : q
  · exact h1 hq (dz_t hq h)
  · exact h2 hq (dz_f hq h)
theorem dz_nz {v : Int32} (h : v = 0 ∨ v = 1) : narrow .boolean (.int v) = .int v := by
  rcases h with rfl | rfl <;> rfl
theorem dz_ne {x : Int32} {z : Int} (h : ¬ x = Int32.ofInt z) (hz : (Int32.ofInt z).toInt = z) : ¬ x.toInt = z := fun e => h (Int32.toInt.inj (e.trans hz.symm))
theorem dz_keep {D : va_G} {cl : List vw_C} {ws : va_W} {H H1 : Heap} (hP : va_P D cl ws H) (hk : ∀ q : Nat, q < H.size → ¬ (fun _ => False) q → H1[q]? = H[q]?) : va_P D cl ws H1 :=
  hP.kept (fun k q hq => hk _ (hP k q hq).lt (fun h => h))
/-- a contract of a method of a class some of whose methods are natives: this one isn't -/
theorem dz_ofW {l : Launch} {y : MethodName} {ws ws' : List Cond} {rm : Room} {Pc : Array Value → State → Prop} {Qc : Array Value → State → Outcome → State → Prop} {mc ms : Nat} {free : Addr → Prop} {cc : ByteArray} {maxL : Nat} {ret : Option FieldType}
    (hy : plainFor y = true) (hw : ws = Cond.code y cc maxL ret :: ws')
    (body : ∀ p e s m args below meth c s₁, BodyLoose p l y (headSpec ws rm) cc maxL ret e s m args below meth c s₁ → c.maxLocals = maxL → Pc args s →
      W p l e (headSpec ws rm).room s m args below meth c s.heap [] 0 0 (MQ below Qc args s mc ms free) (entryFrame m args maxL)) : Met l y ws rm Pc Qc mc ms free := by
  refine MetFree.of_bodySF (code := cc) (maxLocals := maxL) (ret := ret) hy ?_ ?_
  · intro args s m h hn
    obtain ⟨meth, c, h1, h2, h3, h4, h5, h6, -, -⟩ := Cond.code_spec hn (atoms_spec (ws := ws) h _ (by rw [hw]; exact List.mem_cons_self))
    exact ⟨meth, c, h1, h2, h3, h4, h5, h6⟩
  · intro p e s m args below meth c s₁ B hml hP _
    have hh0 : s₁.heap = s.heap := by rw [B.state]; rfl
    obtain ⟨t, a1, o, b1, b2, b3⟩ := body p e s m args below meth c s₁ B hml hP s₁ hh0 (Stand.of_body B)
    exact ⟨t, o, a1, b1, b2, ⟨b3.1, b3.2⟩⟩
/-- the answer of a method that touches no cell -/
abbrev dz_Qi (r0 : Int32) : Array Value → State → Outcome → State → Prop := va_Qi (fun (r : Int32) (_ : Unit) => r = r0) (fun _ _ => True) (fun _ => False)
abbrev dz_Ql (r0 : Int64) : Array Value → State → Outcome → State → Prop := va_Ql (fun (r : Int64) (_ : Unit) => r = r0) (fun _ _ => True) (fun _ => False)
abbrev dz_P (av : List Value) : Array Value → State → Prop := va_Pc av (fun _ => True)
