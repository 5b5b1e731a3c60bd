/-! the model's world: its object and its arrays; σ: int fields, the long field, int arrays by their field's number, long arrays -/
abbrev pM : Type := (Nat → Int32) × Int64 × (Nat → Nat → Int32) × (Nat → Nat → Int64)
def mF (σ : pM) (k : Nat) (v : Int32) : pM := (fun j => bif Nat.beq j k then v else σ.1 j, σ.2)
def mG (σ : pM) (v : Int64) : pM := (σ.1, v, σ.2.2)
def mI (σ : pM) (a i : Nat) (v : Int32) : pM := (σ.1, σ.2.1, (fun b => bif Nat.beq b a then upd (σ.2.2.1 b) i v else σ.2.2.1 b), σ.2.2.2)
def mJ (σ : pM) (a i : Nat) (v : Int64) : pM := (σ.1, σ.2.1, σ.2.2.1, (fun b => bif Nat.beq b a then vp_updL (σ.2.2.2 b) i v else σ.2.2.2 b))
abbrev mwF (ad : Nat → Nat) (σ : pM) : List Value := [.int (σ.1 0), .ref (ad 1), .ref (ad 2), .ref (ad 3), .ref (ad 4), .ref (ad 5), .int (σ.1 6), .int (σ.1 7), .ref (ad 8), .ref (ad 9), .ref (ad 10), .ref (ad 11), .ref (ad 12), .ref (ad 13), .ref (ad 14), .ref (ad 15), .ref (ad 16), .ref (ad 17), .ref (ad 18), .ref (ad 19), .ref (ad 20), .ref (ad 21), .ref (ad 22), .ref (ad 23), .int (σ.1 24), .int (σ.1 25), .int (σ.1 26), .int (σ.1 27), .long σ.2.1, .int (σ.1 29), .int (σ.1 30), .ref (ad 31), .ref (ad 32), .int (σ.1 33), .ref (ad 34)]
abbrev mw (ci h : Nat) (ad : Nat → Nat) (cA : Nat → ClassId) (σ : pM) : va_W := [(h, .inr (ci, mwF ad σ)), (ad 1, .inl (cA 1, 4, .inr (.inl (σ.2.2.2 1)))), (ad 2, .inl (cA 1, 4, .inr (.inl (σ.2.2.2 2)))), (ad 3, .inl (cA 1, 4, .inr (.inl (σ.2.2.2 3)))), (ad 4, .inl (cA 0, 12, .inl (σ.2.2.1 4))), (ad 5, .inl (cA 0, 12, .inl (σ.2.2.1 5))), (ad 8, .inl (cA 0, 116, .inl (σ.2.2.1 8))), (ad 9, .inl (cA 0, 116, .inl (σ.2.2.1 9))), (ad 10, .inl (cA 0, 116, .inl (σ.2.2.1 10))), (ad 11, .inl (cA 0, 116, .inl (σ.2.2.1 11))), (ad 12, .inl (cA 0, 116, .inl (σ.2.2.1 12))), (ad 13, .inl (cA 0, 116, .inl (σ.2.2.1 13))), (ad 14, .inl (cA 0, 1044, .inl (σ.2.2.1 14))), (ad 15, .inl (cA 0, 1044, .inl (σ.2.2.1 15))), (ad 16, .inl (cA 0, 1044, .inl (σ.2.2.1 16))), (ad 17, .inl (cA 0, 1044, .inl (σ.2.2.1 17))), (ad 18, .inl (cA 0, 1044, .inl (σ.2.2.1 18))), (ad 19, .inl (cA 2, 60, .inl (σ.2.2.1 19))), (ad 20, .inl (cA 0, 60, .inl (σ.2.2.1 20))), (ad 21, .inl (cA 0, 70, .inl (σ.2.2.1 21))), (ad 22, .inl (cA 0, 70, .inl (σ.2.2.1 22))), (ad 23, .inl (cA 0, 400, .inl (σ.2.2.1 23))), (ad 31, .inl (cA 3, 49, .inl (σ.2.2.1 31))), (ad 32, .inl (cA 0, 600, .inl (σ.2.2.1 32))), (ad 34, .inl (cA 0, 60, .inl (σ.2.2.1 34)))]
abbrev mtys (cA : Nat → ClassId) : List (ClassId × FieldType) := [(cA 0, .int), (cA 1, .long), (cA 2, .boolean), (cA 3, .byte)]
/-- apart: the addresses alone matter -/
theorem mw_fst (ci h : Nat) (ad : Nat → Nat) (cA : Nat → ClassId) (σ σ1 : pM) : (mw ci h ad cA σ).map Prod.fst = (mw ci h ad cA σ1).map Prod.fst := rfl
theorem dz_Dmap {A : Nat → Prop} {w w1 : va_W} (h : va_D A w) (e : w.map Prod.fst = w1.map Prod.fst) : va_D A w1 := by
  have k : ∀ (i : Nat) (q : Nat × va_E), w1[i]? = some q → ∃ p, w[i]? = some p ∧ p.1 = q.1 := by
    intro i q hq
    have h1 : (w1.map Prod.fst)[i]? = some q.1 := by rw [List.getElem?_map, hq]; rfl
    rw [← e, List.getElem?_map] at h1
    cases h2 : w[i]? with
    | none => rw [h2] at h1; cases h1
    | some p => rw [h2] at h1; exact ⟨p, rfl, Option.some.inj h1⟩
  refine ⟨fun i j p q hp hq hpq => ?_, fun i q hq => ?_⟩
  · obtain ⟨p1, hp1, e1⟩ := k i p hp
    obtain ⟨q1, hq1, e2⟩ := k j q hq
    exact h.1 i j p1 q1 hp1 hq1 (by rw [e1, e2]; exact hpq)
  · obtain ⟨q1, hq1, e2⟩ := k i q hq
    rw [← e2]
    exact h.2 i q1 hq1
theorem mw_D {A : Nat → Prop} {ci h : Nat} {ad : Nat → Nat} {cA : Nat → ClassId} {σ : pM} (σ1 : pM) (hD : va_D A (mw ci h ad cA σ)) : va_D A (mw ci h ad cA σ1) := dz_Dmap hD (mw_fst ci h ad cA σ σ1)
theorem dz_free {A0 : Nat → Prop} {ws : va_W} {H0 H : Heap} {locs : List Loc} (hD : va_D A0 ws) (hS : va_S A0 H0 H locs) (hA : ∀ q, H0.size ≤ q → A0 q) : ∀ q, va_A ws H.size q → A0 q := by
  intro q hq
  rcases hq with ⟨k, e, hk⟩ | hq
  · exact hD.2 k _ hk
  · exact hA q (Nat.le_trans hS.1 hq)
abbrev mPc (D : va_G) (cl : List vw_C) (ci h : Nat) (ad : Nat → Nat) (cA : Nat → ClassId) (sz : Nat) (σ : pM) (av : List Value) : Array Value → State → Prop := va_Pc av (fun U => U.heap.size = sz ∧ va_P D cl (mw ci h ad cA σ) U.heap ∧ va_K D cl (mtys cA) U ∧ va_D (fun _ => True) (mw ci h ad cA σ))
abbrev mB (D : va_G) (cl : List vw_C) (ci h : Nat) (ad : Nat → Nat) (cA : Nat → ClassId) (A : Nat → Prop) (σ : pM) (t : State) : Prop := va_P D cl (mw ci h ad cA σ) t.heap ∧ va_K D cl (mtys cA) t ∧ va_D A (mw ci h ad cA σ)
abbrev mQi (D : va_G) (cl : List vw_C) (ci h : Nat) (ad : Nat → Nat) (cA : Nat → ClassId) (A : Nat → Prop) (res : Int32 × pM) : Array Value → State → Outcome → State → Prop := va_Qi (fun (r : Int32) (u : pM) => (r, u) = res) (mB D cl ci h ad cA A) A
abbrev mQl (D : va_G) (cl : List vw_C) (ci h : Nat) (ad : Nat → Nat) (cA : Nat → ClassId) (A : Nat → Prop) (res : Int64 × pM) : Array Value → State → Outcome → State → Prop := va_Ql (fun (r : Int64) (u : pM) => (r, u) = res) (mB D cl ci h ad cA A) A
abbrev mQv (D : va_G) (cl : List vw_C) (ci h : Nat) (ad : Nat → Nat) (cA : Nat → ClassId) (A : Nat → Prop) (res : pM) : Array Value → State → Outcome → State → Prop := va_Qv (fun (u : pM) => u = res) (mB D cl ci h ad cA A) A
theorem m_blind {D : va_G} {cl : List vw_C} {ci h : Nat} {ad : Nat → Nat} {cA : Nat → ClassId} {sz : Nat} {σ : pM} {av : List Value} : FrameBlind (mPc D cl ci h ad cA sz σ av) := by
  intro a U g mk q
  obtain ⟨q0, q1, qP, qK, qD⟩ := q
  exact ⟨q0, q1, qP, va_K.moved (u := U) (U := U.calling g mk a) (Vm.Alike.refl U.vm) qK, qD⟩
theorem m_preV {s : State} {D : va_G} {cl : List vw_C} {ci h : Nat} {ad : Nat → Nat} {cA : Nat → ClassId} {A : Nat → Prop} {σ : pM} {H : Heap} {av : List Value} (hci : cl[ci]? = some (RX1, TX1, 35)) (hK : va_K D cl (mtys cA) s) (hP : va_P D cl (mw ci h ad cA σ) H) (hD : va_D A (mw ci h ad cA σ)) : PreV s H RX1 h (mPc D cl ci h ad cA H.size σ (.ref h :: av)) av :=
  ⟨m_blind, va_recv hK hP (ci := ci) (q0 := 0) hci rfl, fun U hU hW => ⟨rfl, by rw [hU], by rw [hU]; exact hP, va_K.moved hW.alike hK, hD.weaken (fun _ _ _ _ => trivial)⟩⟩
theorem m_preS {s : State} {D : va_G} {cl : List vw_C} {ci h : Nat} {ad : Nat → Nat} {cA : Nat → ClassId} {A : Nat → Prop} {σ : pM} {H : Heap} {av : List Value} (hK : va_K D cl (mtys cA) s) (hP : va_P D cl (mw ci h ad cA σ) H) (hD : va_D A (mw ci h ad cA σ)) : PreS s H (mPc D cl ci h ad cA H.size σ av) av :=
  ⟨m_blind, fun U hU hW => ⟨rfl, by rw [hU], by rw [hU]; exact hP, va_K.moved hW.alike hK, hD.weaken (fun _ _ _ _ => trivial)⟩⟩
theorem m_back {A : Nat → Prop} {D : va_G} {cl : List vw_C} {ci h : Nat} {ad : Nat → Nat} {cA : Nat → ClassId} {σ1 : pM} {t : State} {H1 : Heap} (ht : t.heap = H1) (hB : mB D cl ci h ad cA A σ1 t) : va_P D cl (mw ci h ad cA σ1) H1 := by rw [← ht]; exact hB.1
