/-! the class side: a pure heap. τ: size, slots in use, cell by address; ζ: the first own address, known cells below it with what they hold, addresses of constants -/
abbrev pE : Type := (Nat × vp_A) ⊕ (Nat × List Value)
abbrev pH : Type := Nat × Nat × (Nat → pE)
abbrev pZ : Type := Nat × List Nat × (Nat → pE) × (Nat → Nat)
def zc (cA : Nat → ClassId) : pE → va_E
  | .inl x => .inl (cA x.1, x.2)
  | .inr o => .inr o
def zw (cA : Nat → ClassId) (b0 : Nat) (τ : pH) : va_W := va_pl (List.range' b0 (τ.1 - b0)) (fun a => zc cA (τ.2.2 a))
abbrev zCl : List vw_C := [(RX0, TX0, 7), (RX1, TX1, 35), (RX2, TX2, 2), (RX4, TX4, 3), (RX5, TX5, 5), (RX7, TX7, 8), (RX9, TX9, 8), (RX10, TX10, 8), (RX11, TX11, 8), (RX12, TX12, 8), (RX8, TX8, 2), (RX13, TX13, 3), (RX14, TX14, 6), (RX15, TX15, 7), (RJ2, TJ2, 3), (RJ15, TJ15, 4), (RJ8, TJ8, 4), (RJ12, TJ12, 4)]
abbrev ztys (cA : Nat → ClassId) : List (ClassId × FieldType) := [(cA 0, .int), (cA 1, .long), (cA 2, .boolean), (cA 3, .byte), (cA 4, .object "java/lang/Object"), (cA 5, .object "PrimeProofs$Row")]
def zst (τ : pH) (a : Nat) (e : pE) : pH := (τ.1, τ.2.1, va_up τ.2.2 a e)
def znw (τ : pH) (n : Nat) (e : pE) : pH := (τ.1 + 1, τ.2.1 + n, va_up τ.2.2 τ.1 e)
abbrev zA (ζ : pZ) : Nat → Prop := fun q => ζ.1 ≤ q
def zH (D : va_G) (cA : Nat → ClassId) (ζ : pZ) (τ : pH) (H : Heap) : Prop := H.size = τ.1 ∧ ζ.1 ≤ τ.1 ∧ va_P D zCl (zw cA ζ.1 τ) H
def zrd (ζ : pZ) (τ : pH) (a : Nat) : Option pE := if ζ.1 ≤ a ∧ a < τ.1 then some (τ.2.2 a) else if a ∈ ζ.2.1 then some (ζ.2.2.1 a) else none
def zck {β : Type} (τ : pH) (o : Option (β × pH)) : Option (β × pH) := match o with
  | some r => if τ.1 ≤ r.2.1 ∧ τ.2.1 ≤ r.2.2.1 then some r else none
  | none => none
theorem zck_o {β : Type} {τ : pH} {o : Option (β × pH)} {r : β × pH} (h : zck τ o = some r) : (τ.1 ≤ r.2.1 ∧ τ.2.1 ≤ r.2.2.1) ∧ o = some r := by
  cases o with
  | none => cases h
  | some q =>
    have h : (if τ.1 ≤ q.2.1 ∧ τ.2.1 ≤ q.2.2.1 then some q else none) = some r := h
    obtain ⟨h1, h2⟩ := dz_go h
    cases h2
    exact ⟨h1, rfl⟩
theorem zck_i {β : Type} {τ : pH} {o : Option (β × pH)} {r : β × pH} (h : o = some r) (h1 : τ.1 ≤ r.2.1) (h2 : τ.2.1 ≤ r.2.2.1) : zck τ o = some r := by
  subst h
  show (if τ.1 ≤ r.2.1 ∧ τ.2.1 ≤ r.2.2.1 then some r else none) = some r
  rw [if_pos ⟨h1, h2⟩]
def zcl {α β : Type} (τ : pH) (o : Option (α × pH)) (f : α → pH → Option (β × pH)) : Option (β × pH) := match o with
  | none => none
  | some x => if τ.1 ≤ x.2.1 ∧ τ.2.1 ≤ x.2.2.1 then zck x.2 (f x.1 x.2) else none
theorem zcl_o {α β : Type} {τ : pH} {o : Option (α × pH)} {f : α → pH → Option (β × pH)} {r : β × pH} (h : zcl τ o f = some r) : ∃ x τ1, o = some (x, τ1) ∧ (τ.1 ≤ τ1.1 ∧ τ.2.1 ≤ τ1.2.1) ∧ (τ1.1 ≤ r.2.1 ∧ τ1.2.1 ≤ r.2.2.1) ∧ f x τ1 = some r := by
  cases o with
  | none => cases h
  | some x =>
    have h : (if τ.1 ≤ x.2.1 ∧ τ.2.1 ≤ x.2.2.1 then zck x.2 (f x.1 x.2) else none) = some r := h
    obtain ⟨h1, h2⟩ := dz_go h
    obtain ⟨h3, h4⟩ := zck_o h2
    exact ⟨x.1, x.2, rfl, h1, h3, h4⟩
theorem zcl_i {α β : Type} {τ τ1 : pH} {x : α} {o : Option (α × pH)} {f : α → pH → Option (β × pH)} {r : β × pH} (h : o = some (x, τ1)) (h1 : τ.1 ≤ τ1.1 ∧ τ.2.1 ≤ τ1.2.1) (h2 : τ1.1 ≤ r.2.1 ∧ τ1.2.1 ≤ r.2.2.1) (h3 : f x τ1 = some r) : zcl τ o f = some r := by
  subst h
  show (if τ.1 ≤ τ1.1 ∧ τ.2.1 ≤ τ1.2.1 then zck τ1 (f x τ1) else none) = some r
  rw [if_pos h1]
  exact zck_i h3 h2.1 h2.2
/-- an object of a class: its fields -/
def zob (ζ : pZ) (τ : pH) (a ci : Nat) : Option (List Value) := match zrd ζ τ a with
  | some (.inr o) => if o.1 = ci then some o.2 else none
  | _ => none
theorem zob_o {ζ : pZ} {τ : pH} {a ci : Nat} {fs : List Value} (h : zob ζ τ a ci = some fs) : zrd ζ τ a = some (.inr (ci, fs)) := by
  unfold zob at h
  split at h
  · rename_i o e
    obtain ⟨h1, h2⟩ := dz_go h
    rw [e, ← h1, ← Option.some.inj h2]
  · cases h
/-- the same, to be written -/
def zwo (ζ : pZ) (τ : pH) (a ci k : Nat) : Option (List Value) := if ζ.1 ≤ a ∧ a < τ.1 then (match τ.2.2 a with
  | .inr o => if o.1 = ci ∧ k < o.2.length then some o.2 else none
  | _ => none) else none
theorem zwo_o {ζ : pZ} {τ : pH} {a ci k : Nat} {fs : List Value} (h : zwo ζ τ a ci k = some fs) : (ζ.1 ≤ a ∧ a < τ.1) ∧ τ.2.2 a = .inr (ci, fs) ∧ k < fs.length := by
  obtain ⟨h0, h⟩ := dz_go h
  refine ⟨h0, ?_⟩
  split at h
  · rename_i o e
    obtain ⟨h1, h2⟩ := dz_go h
    cases h2
    exact ⟨by rw [e, ← h1.1], h1.2⟩
  · cases h
def zvi (v : Option Value) : Option Int32 := match v with
  | some (.int x) => some x
  | _ => none
def zvl (v : Option Value) : Option Int64 := match v with
  | some (.long x) => some x
  | _ => none
def zvr (v : Option Value) : Option Nat := match v with
  | some (.ref x) => some x
  | _ => none
theorem zvi_o {v : Option Value} {x : Int32} (h : zvi v = some x) : v = some (.int x) := by
  unfold zvi at h
  split at h
  · cases h; rfl
  · cases h
theorem zvl_o {v : Option Value} {x : Int64} (h : zvl v = some x) : v = some (.long x) := by
  unfold zvl at h
  split at h
  · cases h; rfl
  · cases h
theorem zvr_o {v : Option Value} {x : Nat} (h : zvr v = some x) : v = some (.ref x) := by
  unfold zvr at h
  split at h
  · cases h; rfl
  · cases h
/-- arrays of ints (bytes, booleans), longs, references: length and contents -/
def zai (ζ : pZ) (τ : pH) (a j : Nat) : Option (Nat × (Nat → Int32)) := match zrd ζ τ a with
  | some (.inl (i, n, .inl f)) => if i = j then some (n, f) else none
  | _ => none
theorem zai_o {ζ : pZ} {τ : pH} {a j n : Nat} {f : Nat → Int32} (h : zai ζ τ a j = some (n, f)) : zrd ζ τ a = some (.inl (j, n, .inl f)) := by
  unfold zai at h
  split at h
  · rename_i i n' f' e
    obtain ⟨h1, h2⟩ := dz_go h
    cases h2
    rw [e, h1]
  · cases h
def zal (ζ : pZ) (τ : pH) (a j : Nat) : Option (Nat × (Nat → Int64)) := match zrd ζ τ a with
  | some (.inl (i, n, .inr (.inl f))) => if i = j then some (n, f) else none
  | _ => none
theorem zal_o {ζ : pZ} {τ : pH} {a j n : Nat} {f : Nat → Int64} (h : zal ζ τ a j = some (n, f)) : zrd ζ τ a = some (.inl (j, n, .inr (.inl f))) := by
  unfold zal at h
  split at h
  · rename_i i n' f' e
    obtain ⟨h1, h2⟩ := dz_go h
    cases h2
    rw [e, h1]
  · cases h
def zaq (ζ : pZ) (τ : pH) (a j : Nat) : Option (Nat × (Nat → Option Nat)) := match zrd ζ τ a with
  | some (.inl (i, n, .inr (.inr (.inr (.inr f))))) => if i = j then some (n, f) else none
  | _ => none
theorem zaq_o {ζ : pZ} {τ : pH} {a j n : Nat} {f : Nat → Option Nat} (h : zaq ζ τ a j = some (n, f)) : zrd ζ τ a = some (.inl (j, n, .inr (.inr (.inr (.inr f))))) := by
  unfold zaq at h
  split at h
  · rename_i i n' f' e
    obtain ⟨h1, h2⟩ := dz_go h
    cases h2
    rw [e, h1]
  · cases h
/-- may it be written -/
theorem zrd_w {ζ : pZ} {τ : pH} {a : Nat} {e : pE} (h : zrd ζ τ a = some e) (ha : ζ.1 ≤ a ∧ a < τ.1) : τ.2.2 a = e := by
  unfold zrd at h
  rw [if_pos ha] at h
  exact Option.some.inj h
theorem zw_get {cA : Nat → ClassId} {b0 a : Nat} {τ : pH} (h1 : b0 ≤ a) (h2 : a < τ.1) : (zw cA b0 τ)[a - b0]? = some (a, zc cA (τ.2.2 a)) := by
  unfold zw va_pl
  rw [List.getElem?_map, List.getElem?_range' (by omega)]
  show some (b0 + 1 * (a - b0), zc cA (τ.2.2 (b0 + 1 * (a - b0)))) = _
  rw [show b0 + 1 * (a - b0) = a by omega]
theorem zw_at {cA : Nat → ClassId} {b0 k : Nat} {τ : pH} {q : Nat × va_E} (h : (zw cA b0 τ)[k]? = some q) : k < τ.1 - b0 ∧ q = (b0 + k, zc cA (τ.2.2 (b0 + k))) := by
  unfold zw va_pl at h
  rw [List.getElem?_map] at h
  have hk : k < τ.1 - b0 := by
    rcases Nat.lt_or_ge k (τ.1 - b0) with hk | hk
    · exact hk
    · rw [List.getElem?_eq_none (by rw [List.length_range']; exact hk)] at h
      cases h
  rw [List.getElem?_range' hk] at h
  have h := Option.some.inj h
  rw [Nat.one_mul] at h
  exact ⟨hk, h.symm⟩
theorem zw_D {cA : Nat → ClassId} {b0 : Nat} {τ : pH} : va_D (fun q => b0 ≤ q) (zw cA b0 τ) := by
  refine ⟨fun i j p q hp hq e => ?_, fun k q hq => ?_⟩
  · have h1 := (zw_at hp).2
    have h2 := (zw_at hq).2
    rw [h1, h2] at e
    have e : b0 + i = b0 + j := e
    omega
  · rw [(zw_at hq).2]
    exact Nat.le_add_right _ _
theorem zw_set {cA : Nat → ClassId} {b0 a : Nat} {τ : pH} (h1 : b0 ≤ a) (h2 : a < τ.1) (e : pE) : (zw cA b0 τ).set (a - b0) (a, zc cA e) = zw cA b0 (zst τ a e) := by
  apply List.ext_getElem?
  intro k
  have hl : (zw cA b0 τ).length = τ.1 - b0 := by unfold zw va_pl; rw [List.length_map, List.length_range']
  rw [List.getElem?_set]
  by_cases hk : a - b0 = k
  · subst hk
    rw [if_pos rfl, if_pos (by rw [hl]; omega), zw_get (τ := zst τ a e) h1 h2]
    show _ = some (a, zc cA (va_up τ.2.2 a e a))
    rw [va_up, if_pos rfl]
  · rw [if_neg hk]
    rcases Nat.lt_or_ge k (τ.1 - b0) with h | h
    · have e1 := zw_get (cA := cA) (τ := τ) (a := b0 + k) (b0 := b0) (by omega) (by omega)
      have e2 := zw_get (cA := cA) (τ := zst τ a e) (a := b0 + k) (b0 := b0) (by omega) (by show b0 + k < τ.1; omega)
      rw [Nat.add_sub_cancel_left] at e1 e2
      rw [e1, e2]
      show _ = some (b0 + k, zc cA (va_up τ.2.2 a e (b0 + k)))
      rw [va_up, if_neg (by omega)]
    · rw [List.getElem?_eq_none (by rw [hl]; exact h), List.getElem?_eq_none]
      have : (zw cA b0 (zst τ a e)).length = τ.1 - b0 := by unfold zw va_pl; rw [List.length_map, List.length_range']; rfl
      rw [this]; exact h
theorem zw_push {cA : Nat → ClassId} {b0 n : Nat} {τ : pH} (h : b0 ≤ τ.1) (e : pE) : zw cA b0 τ ++ [(τ.1, zc cA e)] = zw cA b0 (znw τ n e) := by
  apply List.ext_getElem?
  intro k
  have hl : (zw cA b0 τ).length = τ.1 - b0 := by unfold zw va_pl; rw [List.length_map, List.length_range']
  rcases Nat.lt_or_ge k (τ.1 - b0) with hk | hk
  · have e1 := zw_get (cA := cA) (τ := τ) (a := b0 + k) (b0 := b0) (by omega) (by omega)
    have e2 := zw_get (cA := cA) (τ := znw τ n e) (a := b0 + k) (b0 := b0) (by omega) (by show b0 + k < τ.1 + 1; omega)
    rw [Nat.add_sub_cancel_left] at e1 e2
    rw [List.getElem?_append_left (by rw [hl]; exact hk), e1, e2]
    show _ = some (b0 + k, zc cA (va_up τ.2.2 τ.1 e (b0 + k)))
    rw [va_up, if_neg (by omega)]
  · rw [List.getElem?_append_right (by rw [hl]; exact hk), hl]
    rcases Nat.eq_or_lt_of_le hk with hk | hk
    · have e2 := zw_get (cA := cA) (τ := znw τ n e) (a := τ.1) (b0 := b0) h (by show τ.1 < τ.1 + 1; omega)
      rw [← hk, Nat.sub_self, e2]
      show some (τ.1, zc cA e) = some (τ.1, zc cA (va_up τ.2.2 τ.1 e τ.1))
      rw [va_up, if_pos rfl]
    · rw [List.getElem?_eq_none (by show 1 ≤ k - (τ.1 - b0); omega), List.getElem?_eq_none]
      have : (zw cA b0 (znw τ n e)).length = τ.1 + 1 - b0 := by unfold zw va_pl; rw [List.length_map, List.length_range']; rfl
      rw [this]; omega
/-- words of the tables that don't ride in the lists -/
def zNk : Cond → Bool
  | .fieldLinkNest .. => true
  | .methodLinkNest .. => true
  | .castable .. => true
  | .declares .. => true
  | _ => false
theorem zNk_warm {w : Cond} (hk : zNk w = true) {s U : State} (hW : s.WarmedH U.vm) (h : va_Nw w s) : va_Nw w U := by
  unfold zNk at hk
  split at hk
  · exact va_Nw.warmF hW h
  · exact va_Nw.warmM hW h
  · exact va_Nw.warmC hW h
  · exact va_Nw.warmD hW h
  · cases hk
theorem zNk_same {w : Cond} (hk : zNk w = true) {s U : State} (hv : U.vm = s.vm) (h : va_Nw w s) : va_Nw w U := by
  unfold zNk at hk
  split at hk
  · exact va_tabs rfl hv.symm h
  · exact va_tabs rfl hv.symm h
  · exact va_tabs rfl hv.symm h
  · exact va_tabs rfl hv.symm h
  · cases hk
def zNw : List Cond := lw_tbl.filter zNk
/-- what holds of the tables and of the known cells below -/
abbrev zFs : List (String × MethodName × MethodName) := [(RX2, ⟨"java/util/Iterator", "hasNext", "()Z"⟩, yX2_hasNext), (RX2, ⟨"java/util/Iterator", "next", "()Ljava/lang/Object;"⟩, yX2_next), (RJ15, ⟨"java/util/Iterator", "hasNext", "()Z"⟩, yJ15_hasNext), (RJ15, ⟨"java/util/Iterator", "next", "()Ljava/lang/Object;"⟩, yJ15_next)]
def zFw (s : State) : Prop := ∀ q ∈ zFs, va_Fw q.1 q.2.1 q.2.2 s
theorem zFs_ok : ∀ q ∈ zFs, q.2.1.cls ≠ "java/lang/invoke/MethodHandle" ∧ q.2.1.cls ≠ "java/lang/invoke/VarHandle" := by decide +kernel
theorem zFw.moved {u U : State} (hvm : u.vm.Alike U.vm) (h : zFw u) : zFw U := fun q hq => (h q hq).moved (zFs_ok q hq) hvm
abbrev zSel : List String := ["PrimeProofs$Small", "PrimeProofs$Pratt", "PrimeProofs$Part", "PrimeProofs$Lucas", "PrimeProofs$Both"]
def zSels (s : State) : Prop := ∀ C ∈ zSel, va_Nw (.selects C yX6_isBacked yX6_isBacked) s
theorem zSels.warm {s U : State} (hW : s.WarmedH U.vm) (h : zSels s) : zSels U := fun C hC => word_at hW (Or.inl rfl) (h C hC)
theorem zSels.same {s U : State} (hv : U.vm = s.vm) (h : zSels s) : zSels U := fun C hC => va_tabs rfl hv.symm (h C hC)
/-- statics of the JDK that are read: ArrayList's empty array (address 0 of the constants), Object[]'s class object (1), String's mode, the digits of Integer (2, 3), constants of StringUTF16 -/
def zD1 : List Int32 := [48, 49, 50, 51, 52, 53, 54, 55, 56, 57, 48, 49, 50, 51, 52, 53, 54, 55, 56, 57, 48, 49, 50, 51, 52, 53, 54, 55, 56, 57, 48, 49, 50, 51, 52, 53, 54, 55, 56, 57, 48, 49, 50, 51, 52, 53, 54, 55, 56, 57, 48, 49, 50, 51, 52, 53, 54, 55, 56, 57, 48, 49, 50, 51, 52, 53, 54, 55, 56, 57, 48, 49, 50, 51, 52, 53, 54, 55, 56, 57, 48, 49, 50, 51, 52, 53, 54, 55, 56, 57, 48, 49, 50, 51, 52, 53, 54, 55, 56, 57]
def zD2 : List Int32 := [48, 48, 48, 48, 48, 48, 48, 48, 48, 48, 49, 49, 49, 49, 49, 49, 49, 49, 49, 49, 50, 50, 50, 50, 50, 50, 50, 50, 50, 50, 51, 51, 51, 51, 51, 51, 51, 51, 51, 51, 52, 52, 52, 52, 52, 52, 52, 52, 52, 52, 53, 53, 53, 53, 53, 53, 53, 53, 53, 53, 54, 54, 54, 54, 54, 54, 54, 54, 54, 54, 55, 55, 55, 55, 55, 55, 55, 55, 55, 55, 56, 56, 56, 56, 56, 56, 56, 56, 56, 56, 57, 57, 57, 57, 57, 57, 57, 57, 57, 57]
def zStat (ζ : pZ) (s : State) : Prop := (va_Z "java/util/ArrayList" "DEFAULTCAPACITY_EMPTY_ELEMENTDATA" "[Ljava/lang/Object;" (.ref (ζ.2.2.2 0)) (zA ζ) s s.heap ∧ va_T (.object "java/lang/Object") (ζ.2.2.2 0) 0 (fun _ => .null) (zA ζ) s s.heap ∧ ζ.2.2.2 0 < ζ.1) ∧ (va_Mi "[Ljava/lang/Object;" (ζ.2.2.2 1) s ∧ va_Dc s) ∧ va_Z "java/lang/String" "COMPACT_STRINGS" "Z" (.int 1) (zA ζ) s s.heap
  ∧ (va_Z "java/lang/Integer" "DigitOnes" "[B" (.ref (ζ.2.2.2 2)) (zA ζ) s s.heap ∧ va_T .byte (ζ.2.2.2 2) 100 (fun j => .int (zD1.getD j 0)) (zA ζ) s s.heap) ∧ (va_Z "java/lang/Integer" "DigitTens" "[B" (.ref (ζ.2.2.2 3)) (zA ζ) s s.heap ∧ va_T .byte (ζ.2.2.2 3) 100 (fun j => .int (zD2.getD j 0)) (zA ζ) s s.heap)
  ∧ va_Zq "jdk/internal/util/Preconditions" "SIOOBE_FORMATTER" "Ljava/util/function/BiFunction;" (zA ζ) s s.heap ∧ va_Zq "java/lang/Throwable" "UNASSIGNED_STACK" "[Ljava/lang/StackTraceElement;" (zA ζ) s s.heap ∧ va_Zq "java/lang/Throwable" "SUPPRESSED_SENTINEL" "Ljava/util/List;" (zA ζ) s s.heap
theorem zZq.moved {C n d : String} {A : Nat → Prop} {u U : State} {H : Heap} (hvm : u.vm.Alike U.vm) (h : va_Zq C n d A u H) : va_Zq C n d A U H := by
  rcases h with h | ⟨t, h⟩
  · exact Or.inl (h.moved hvm)
  · exact Or.inr ⟨t, h.moved hvm⟩
theorem zZq.kept {C n d : String} {A : Nat → Prop} {U : State} {H H1 : Heap} (h : va_Zq C n d A U H) (hq : ∀ a : Nat, a < H.size → ¬ A a → H1[a]? = H[a]?) : va_Zq C n d A U H1 := by
  rcases h with h | ⟨t, h⟩
  · exact Or.inl (h.kept hq)
  · exact Or.inr ⟨t, h.kept hq⟩
theorem zStat.moved {ζ : pZ} {u U : State} (hvm : u.vm.Alike U.vm) (hh : ∀ a : Nat, a < u.heap.size → ¬ zA ζ a → U.heap[a]? = u.heap[a]?) (h : zStat ζ u) : zStat ζ U := by
  obtain ⟨⟨h1, h2, h3⟩, ⟨h4, h5⟩, h6, ⟨h7, h8⟩, ⟨h9, h10⟩, h11, h12, h13⟩ := h
  exact ⟨⟨(h1.moved hvm).kept hh, (h2.moved hvm).kept hh, h3⟩, ⟨h4.moved hvm, h5.moved hvm⟩, (h6.moved hvm).kept hh, ⟨(h7.moved hvm).kept hh, (h8.moved hvm).kept hh⟩, ⟨(h9.moved hvm).kept hh, (h10.moved hvm).kept hh⟩, zZq.kept (zZq.moved hvm h11) hh, zZq.kept (zZq.moved hvm h12) hh, zZq.kept (zZq.moved hvm h13) hh⟩
abbrev zAs : List String := ["java/lang/Object", "PrimeProofs$Row"]
def zX (D : va_G) (cA : Nat → ClassId) (ζ : pZ) (s : State) : Prop := (va_K D zCl (ztys cA) s ∧ zFw s ∧ (∀ C ∈ zAs, va_AO C s) ∧ zSels s) ∧ (∀ w ∈ zNw, va_Nw w s) ∧ va_P D zCl (va_pl ζ.2.1 (fun a => zc cA (ζ.2.2.1 a))) s.heap ∧ (∀ a ∈ ζ.2.1, a < ζ.1) ∧ ζ.1 ≤ s.heap.size ∧ zStat ζ s
theorem zX.st {D : va_G} {cA : Nat → ClassId} {ζ : pZ} {s : State} (h : zX D cA ζ s) : zStat ζ s := h.2.2.2.2.2
theorem zX.K {D : va_G} {cA : Nat → ClassId} {ζ : pZ} {s : State} (h : zX D cA ζ s) : va_K D zCl (ztys cA) s := h.1.1
theorem zX.F {D : va_G} {cA : Nat → ClassId} {ζ : pZ} {s : State} (h : zX D cA ζ s) (i : Nat) {q : String × MethodName × MethodName} (hi : zFs[i]? = some q) : va_Fw q.1 q.2.1 q.2.2 s := h.1.2.1 q (List.mem_of_getElem? hi)
theorem zX.AO {D : va_G} {cA : Nat → ClassId} {ζ : pZ} {s : State} (h : zX D cA ζ s) (i : Nat) {C : String} (hi : zAs[i]? = some C) : va_AO C s := h.1.2.2.1 C (List.mem_of_getElem? hi)
theorem zX.sel {D : va_G} {cA : Nat → ClassId} {ζ : pZ} {s : State} (h : zX D cA ζ s) (i : Nat) {C : String} (hi : zSel[i]? = some C) : va_Nw (.selects C yX6_isBacked yX6_isBacked) s := h.1.2.2.2 C (List.mem_of_getElem? hi)
theorem zX.N {D : va_G} {cA : Nat → ClassId} {ζ : pZ} {s : State} (h : zX D cA ζ s) {w : Cond} (hw : w ∈ lw_tbl) (hk : zNk w = true) : va_Nw w s := h.2.1 w (List.mem_filter.mpr ⟨hw, hk⟩)
theorem zX.hA {D : va_G} {cA : Nat → ClassId} {ζ : pZ} {s : State} (h : zX D cA ζ s) : ∀ q : Nat, s.heap.size ≤ q → zA ζ q := fun _ hq => Nat.le_trans h.2.2.2.2.1 hq
theorem zX.below {D : va_G} {cA : Nat → ClassId} {ζ : pZ} {s : State} {H : Heap} {locs : List Loc} (h : zX D cA ζ s) (hS : va_S (zA ζ) s.heap H locs) : va_P D zCl (va_pl ζ.2.1 (fun a => zc cA (ζ.2.2.1 a))) H := by
  refine h.2.2.1.kept (fun k q hk => ?_)
  have hq : q.1 ∈ ζ.2.1 := by
    unfold va_pl at hk
    obtain ⟨a, ha, e⟩ := List.mem_map.mp (List.mem_of_getElem? hk)
    rw [← e]; exact ha
  have h1 := h.2.2.2.1 _ hq
  exact hS.2.1 _ (h.2.2.1 k q hk).lt (fun h2 => absurd h1 (Nat.not_lt.mpr h2))
theorem zX.warm {D : va_G} {cA : Nat → ClassId} {ζ : pZ} {s U : State} {H : Heap} {locs : List Loc} (h : zX D cA ζ s) (hS : va_S (zA ζ) s.heap H locs) (hU : U.heap = H) (hW : s.WarmedH U.vm) : zX D cA ζ U :=
  ⟨⟨va_K.moved hW.alike h.1.1, h.1.2.1.moved hW.alike, fun C hC => (h.1.2.2.1 C hC).moved hW.alike, h.1.2.2.2.warm hW⟩, fun w hw => zNk_warm (List.mem_filter.mp hw).2 hW (h.2.1 w hw), by rw [hU]; exact h.below hS, h.2.2.2.1, by rw [hU]; exact Nat.le_trans h.2.2.2.2.1 hS.1, h.st.moved hW.alike (fun a h1 h2 => by rw [hU]; exact hS.2.1 a h1 h2)⟩
abbrev zPc (D : va_G) (cA : Nat → ClassId) (ζ : pZ) (τ : pH) (av : List Value) : Array Value → State → Prop := va_Pc av (fun U => zX D cA ζ U ∧ zH D cA ζ τ U.heap)
theorem z_blind {D : va_G} {cA : Nat → ClassId} {ζ : pZ} {τ : pH} {av : List Value} : FrameBlind (zPc D cA ζ τ av) := by
  intro a U g mk q
  obtain ⟨q0, ⟨⟨k1, k6, k7, k8⟩, k2, k3, k4, k5, k9⟩, qH⟩ := q
  exact ⟨q0, ⟨⟨va_K.moved (u := U) (U := U.calling g mk a) (Vm.Alike.refl U.vm) k1, zFw.moved (u := U) (U := U.calling g mk a) (Vm.Alike.refl U.vm) k6, fun C hC => va_AO.moved (u := U) (U := U.calling g mk a) (Vm.Alike.refl U.vm) (k7 C hC), zSels.same (s := U) (U := U.calling g mk a) rfl k8⟩, fun w hw => zNk_same (s := U) (U := U.calling g mk a) (List.mem_filter.mp hw).2 rfl (k2 w hw), k3, k4, k5, k9.moved (u := U) (U := U.calling g mk a) (Vm.Alike.refl U.vm) (fun _ _ _ => rfl)⟩, qH⟩
abbrev zQi (D : va_G) (cA : Nat → ClassId) (ζ : pZ) (res : Int32 × pH) : Array Value → State → Outcome → State → Prop := va_Qi (fun (r : Int32) (u : pH) => (r, u) = res) (fun u t => zH D cA ζ u t.heap) (zA ζ)
abbrev zQl (D : va_G) (cA : Nat → ClassId) (ζ : pZ) (res : Int64 × pH) : Array Value → State → Outcome → State → Prop := va_Ql (fun (r : Int64) (u : pH) => (r, u) = res) (fun u t => zH D cA ζ u t.heap) (zA ζ)
abbrev zQv (D : va_G) (cA : Nat → ClassId) (ζ : pZ) (res : Unit × pH) : Array Value → State → Outcome → State → Prop := va_Qv (fun (u : pH) => ((), u) = res) (fun u t => zH D cA ζ u t.heap) (zA ζ)
abbrev zQr (D : va_G) (cA : Nat → ClassId) (ζ : pZ) (res : Nat × pH) : Array Value → State → Outcome → State → Prop := va_Qr (fun (_ : pH) => True) (fun u a t => (a, u) = res ∧ zH D cA ζ u t.heap) (zA ζ)
abbrev zQq (D : va_G) (cA : Nat → ClassId) (ζ : pZ) (res : Option Nat × pH) : Array Value → State → Outcome → State → Prop := va_Qq (fun (r : Option Nat) (u : pH) => (r, u) = res) (fun u t => zH D cA ζ u t.heap) (zA ζ)
section ZROWS
variable {p : Program} {l : Launch} {e : Env} {R : Room} {s : State} {m : MethodId} {args : Array Value} {below : List Frame} {meth : Method} {c : Code} {H : Heap} {locs : List Loc} {cells slots : Nat} {Q : State → Prop}
variable {D : va_G} {cA : Nat → ClassId} {ζ : pZ} {τ : pH}
theorem dz_size {g : JFrame} (k : H.size ≤ s.heap.size + cells → W p l e R s m args below meth c H locs cells slots Q g) : W p l e R s m args below meth c H locs cells slots Q g :=
  fun T hT X => k (by rw [← hT]; exact X.heapSize) T hT X
theorem zrd_P (hX : zX D cA ζ s) (hS : va_S (zA ζ) s.heap H locs) (hH : zH D cA ζ τ H) {a : Nat} {x : pE} (h : zrd ζ τ a = some x) : va_P D zCl [(a, zc cA x)] H := by
  intro k q hk
  have hz : k < 1 := (List.getElem?_eq_some_iff.mp hk).1
  obtain rfl : k = 0 := by omega
  obtain rfl : (a, zc cA x) = q := Option.some.inj hk
  unfold zrd at h
  by_cases ha : ζ.1 ≤ a ∧ a < τ.1
  · rw [if_pos ha] at h
    have h := Option.some.inj h
    have := hH.2.2 _ _ (zw_get ha.1 ha.2)
    rw [h] at this
    exact this
  · rw [if_neg ha] at h
    obtain ⟨h1, h2⟩ := dz_go h
    obtain ⟨i, hi⟩ := va_pl_get (X := []) (f := fun a => zc cA (ζ.2.2.1 a)) h1
    have := hX.below hS i _ hi
    rw [Option.some.inj h2] at this
    exact this
theorem z_preV (hX : zX D cA ζ s) (hS : va_S (zA ζ) s.heap H locs) (hH : zH D cA ζ τ H) {b ci : Nat} {fs : List Value} {q : vw_C} {av : List Value} (hr : zrd ζ τ b = some (.inr (ci, fs))) (hc : zCl[ci]? = some q) : PreV s H q.1 b (zPc D cA ζ τ (.ref b :: av)) av :=
  ⟨z_blind, va_recv hX.K (zrd_P hX hS hH hr) (ci := ci) (q0 := 0) hc rfl, fun U hU hW => ⟨rfl, hX.warm hS hU hW, by rw [hU]; exact hH⟩⟩
theorem z_preS (hX : zX D cA ζ s) (hS : va_S (zA ζ) s.heap H locs) (hH : zH D cA ζ τ H) {av : List Value} : PreS s H (zPc D cA ζ τ av) av :=
  ⟨z_blind, fun U hU hW => ⟨rfl, hX.warm hS hU hW, by rw [hU]; exact hH⟩⟩
theorem zH_low {H1 : Heap} {a : Nat} (h1 : ζ.1 ≤ a) (h2 : a < τ.1) (hP : va_P D zCl (zw cA ζ.1 τ) H1) : τ.1 ≤ H1.size := by
  have := (hP _ _ (zw_get (a := τ.1 - 1) (by omega) (by omega))).lt
  have : τ.1 - 1 < H1.size := this
  omega
theorem zH_put {H1 : Heap} {a : Nat} {x : pE} (hH : zH D cA ζ τ H) (hcs : s.heap.size + cells = τ.1) (ha : ζ.1 ≤ a ∧ a < τ.1) (hP1 : va_P D zCl ((zw cA ζ.1 τ).set (a - ζ.1) (a, zc cA x)) H1) (hsz : H1.size ≤ s.heap.size + cells) : zH D cA ζ (zst τ a x) H1 := by
  rw [zw_set ha.1 ha.2] at hP1
  have h1 := zH_low (τ := zst τ a x) ha.1 ha.2 hP1
  have h1 : τ.1 ≤ H1.size := h1
  exact ⟨by show H1.size = τ.1; omega, hH.2.1, hP1⟩
theorem zH_new {H1 : Heap} {q n : Nat} {x : pE} (hH : zH D cA ζ τ H) (hcs : s.heap.size + cells = τ.1) (hP1 : va_P D zCl (zw cA ζ.1 τ ++ [(q, zc cA x)]) H1) (hD1 : va_D (zA ζ) (zw cA ζ.1 τ ++ [(q, zc cA x)])) (hsz : H1.size ≤ s.heap.size + (cells + 1)) : q = τ.1 ∧ zH D cA ζ (znw τ n x) H1 := by
  have hl : (zw cA ζ.1 τ).length = τ.1 - ζ.1 := by unfold zw va_pl; rw [List.length_map, List.length_range']
  have hq : (zw cA ζ.1 τ ++ [(q, zc cA x)])[τ.1 - ζ.1]? = some (q, zc cA x) := by
    rw [List.getElem?_append_right (by rw [hl]; exact Nat.le_refl _), hl, Nat.sub_self]; rfl
  have h1 : q < H1.size := (hP1 _ _ hq).lt
  have h2 : ζ.1 ≤ q := hD1.2 _ _ hq
  have h3 : q = τ.1 := by
    rcases Nat.lt_or_ge q τ.1 with h | h
    · have h4 := zw_get (cA := cA) (τ := τ) h2 h
      have h5 : (zw cA ζ.1 τ ++ [(q, zc cA x)])[q - ζ.1]? = some (q, zc cA (τ.2.2 q)) := by
        rw [List.getElem?_append_left (by rw [hl]; omega)]; exact h4
      have := hD1.1 _ _ _ _ h5 hq rfl
      omega
    · omega
  subst h3
  refine ⟨rfl, ?_, Nat.le_succ_of_le hH.2.1, ?_⟩
  · show H1.size = τ.1 + 1
    omega
  · rw [← zw_push hH.2.1]; exact hP1
theorem zH_keep {H1 : Heap} (hH : zH D cA ζ τ H) (hcs : s.heap.size + cells = τ.1) (hz0 : H.size ≤ H1.size) (hk : ∀ q : Nat, q < H.size → ¬ (fun _ => False) q → H1[q]? = H[q]?) (hsz : H1.size ≤ s.heap.size + cells) : zH D cA ζ τ H1 := by
  refine ⟨?_, hH.2.1, hH.2.2.kept (fun k q hq => hk _ (hH.2.2 k q hq).lt (fun h => h))⟩
  have := hH.1
  omega
theorem zw_o {a ci : Nat} {fs : List Value} (ha : ζ.1 ≤ a ∧ a < τ.1) (he : τ.2.2 a = .inr (ci, fs)) : (zw cA ζ.1 τ)[a - ζ.1]? = some (a, .inr (ci, fs)) := by
  rw [zw_get ha.1 ha.2, he]; rfl
theorem zw_a {a j : Nat} {x : vp_A} (ha : ζ.1 ≤ a ∧ a < τ.1) (he : τ.2.2 a = .inl (j, x)) : (zw cA ζ.1 τ)[a - ζ.1]? = some (a, .inl (cA j, x)) := by
  rw [zw_get ha.1 ha.2, he]; rfl
theorem zK_arr {cQ : ClassId} {ty : FieldType} (hK : va_K D zCl (ztys cA) s) (hK1 : va_K D zCl (ztys cA ++ [(cQ, ty)]) s) (j : Nat) (hj : (ztys cA)[j]? = some (cA j, ty)) : cQ = cA j := by
  have h1 := (hK1.2 6 (cQ, ty) rfl).2
  have h2 := (hK.2 j (cA j, ty) hj).2
  cases ty with
  | object C =>
    obtain ⟨_, _, _, _, _, h1⟩ := h1
    obtain ⟨_, _, _, _, _, h2⟩ := h2
    exact Option.some.inj (h1.symm.trans h2)
  | _ => exact Option.some.inj ((show s.vm.findClass _ = some cQ from h1).symm.trans h2)
end ZROWS
theorem z_rf (r : Option Nat) : va_rf r = .null ∨ ∃ a, va_rf r = .ref a := by
  cases r with
  | none => exact Or.inl rfl
  | some a => exact Or.inr ⟨a, rfl⟩
/-- a line, of any of its five classes -/
def zoL (ζ : pZ) (τ : pH) (a : Nat) : Option (Nat × List Value) := match zrd ζ τ a with
  | some (.inr o) => if 5 ≤ o.1 ∧ o.1 ≤ 9 then some o else none
  | _ => none
theorem zoL_o {ζ : pZ} {τ : pH} {a ci : Nat} {fs : List Value} (h : zoL ζ τ a = some (ci, fs)) : zrd ζ τ a = some (.inr (ci, fs)) ∧ (5 ≤ ci ∧ ci ≤ 9) := by
  unfold zoL at h
  split at h
  · rename_i o e
    obtain ⟨h1, h2⟩ := dz_go h
    rw [Option.some.inj h2] at e h1
    exact ⟨e, h1⟩
  · cases h
def zlenq (ζ : pZ) (τ : pH) (a : Nat) : Option Nat := if a = ζ.2.2.2 0 then some 0 else (match zaq ζ τ a 4 with
  | some q => some q.1
  | none => none)
def zels (ζ : pZ) (τ : pH) (f : Nat → Option Nat) (sp n : Nat) : Bool := (List.range n).all fun i => match f (sp + i) with
  | none => true
  | some y => (zoL ζ τ y).isSome
theorem zels_o {ζ : pZ} {τ : pH} {f : Nat → Option Nat} {sp n : Nat} (h : zels ζ τ f sp n = true) : ∀ i : Nat, i < n → ∀ y : Nat, f (sp + i) = some y → ∃ ci fs, zoL ζ τ y = some (ci, fs) := by
  intro i hi y hy
  have h1 := List.all_eq_true.mp h i (List.mem_range.mpr hi)
  rw [hy] at h1
  have h1 : (zoL ζ τ y).isSome = true := h1
  obtain ⟨⟨ci, fs⟩, hq⟩ := Option.isSome_iff_exists.mp h1
  exact ⟨ci, fs, hq⟩
theorem z5 {ci : Nat} (h : 5 ≤ ci ∧ ci ≤ 9) : ci = 5 ∨ ci = 6 ∨ ci = 7 ∨ ci = 8 ∨ ci = 9 := by omega
