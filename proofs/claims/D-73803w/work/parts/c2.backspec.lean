/-! what backs and backsFor do, with their cells and slots (faults that are laid on the way are counted apart) -/
abbrev sLe : Type := Nat × (Nat → sLn)
abbrev sRz : Type := Bool × sLe × Nat × Nat
noncomputable def sBkF (B : sLn → sLe → sRz) (q : Nat) (e : sLe) : sRz :=
  if (sRest (fun k => (e.2 k).1) (sFt e.2) q e.1 0).isSome then (true, e, 0, 0) else
    match (sFnd (if q < 100 then 0 else 1) q).1 with
    | none => (false, e, 5 + (sFnd (if q < 100 then 0 else 1) q).2, 330 + 5 * (sFnd (if q < 100 then 0 else 1) q).2)
    | some l => ((B l e).1, (B l e).2.1, 5 + (sFnd (if q < 100 then 0 else 1) q).2 + (B l e).2.2.1, 330 + 5 * (sFnd (if q < 100 then 0 else 1) q).2 + (B l e).2.2.2)
noncomputable def sBkR (F : Nat → sLe → sRz) : List sR → sLe → sRz
  | [], e => (true, e, 0, 0)
  | r :: rs, e => if (F r.1 e).1 then ((sBkR F rs (F r.1 e).2.1).1, (sBkR F rs (F r.1 e).2.1).2.1, (F r.1 e).2.2.1 + (sBkR F rs (F r.1 e).2.1).2.2.1, (F r.1 e).2.2.2 + (sBkR F rs (F r.1 e).2.1).2.2.2) else F r.1 e
/-- the line itself, when its rows are backed -/
noncomputable def sEnd (l : sLn) (y : sRz) : sRz := if y.1 then (if y.2.1.1 = 60 then (false, y.2.1, y.2.2.1, y.2.2.2) else (true, (y.2.1.1 + 1, upA y.2.1.2 y.2.1.1 l), y.2.2.1 + 1, y.2.2.2 + 92)) else y
noncomputable def sMid (F : Nat → sLe → sRz) (l : sLn) (x : sRz) : sRz := if x.1 then ((sEnd l (sBkR F l.2.2.2.2 x.2.1)).1, (sEnd l (sBkR F l.2.2.2.2 x.2.1)).2.1, x.2.2.1 + (1 + (sEnd l (sBkR F l.2.2.2.2 x.2.1)).2.2.1), x.2.2.2 + (2 + (sEnd l (sBkR F l.2.2.2.2 x.2.1)).2.2.2)) else x
noncomputable def sBks : Nat → sLn → sLe → sRz := Nat.rec (motive := fun _ => sLn → sLe → sRz) (fun _ e => (false, e, 0, 0)) (fun _ G l e => ((sMid (sBkF G) l (sBkR (sBkF G) l.2.2.2.1 e)).1, (sMid (sBkF G) l (sBkR (sBkF G) l.2.2.2.1 e)).2.1, 1 + (sMid (sBkF G) l (sBkR (sBkF G) l.2.2.2.1 e)).2.2.1, 2 + (sMid (sBkF G) l (sBkR (sBkF G) l.2.2.2.1 e)).2.2.2))
theorem sBks_s (F : Nat) (l : sLn) (e : sLe) : sBks (F + 1) l e = ((sMid (sBkF (sBks F)) l (sBkR (sBkF (sBks F)) l.2.2.2.1 e)).1, (sMid (sBkF (sBks F)) l (sBkR (sBkF (sBks F)) l.2.2.2.1 e)).2.1, 1 + (sMid (sBkF (sBks F)) l (sBkR (sBkF (sBks F)) l.2.2.2.1 e)).2.2.1, 2 + (sMid (sBkF (sBks F)) l (sBkR (sBkF (sBks F)) l.2.2.2.1 e)).2.2.2) := rfl
theorem sBkF_y {B : sLn → sLe → sRz} {q : Nat} {e : sLe} (h : (sRest (fun k => (e.2 k).1) (sFt e.2) q e.1 0).isSome = true) : sBkF B q e = (true, e, 0, 0) := if_pos h
theorem sBkF_n {B : sLn → sLe → sRz} {q s : Nat} {e : sLe} (hs : (if q < 100 then 0 else 1) = s) (h : sRest (fun k => (e.2 k).1) (sFt e.2) q e.1 0 = none) (h2 : (sFnd s q).1 = none) : sBkF B q e = (false, e, 5 + (sFnd s q).2, 330 + 5 * (sFnd s q).2) := by
  unfold sBkF
  rw [hs, h, h2]
  rfl
theorem sBkF_s {B : sLn → sLe → sRz} {q s : Nat} {e : sLe} {l : sLn} (hs : (if q < 100 then 0 else 1) = s) (h : sRest (fun k => (e.2 k).1) (sFt e.2) q e.1 0 = none) (h2 : (sFnd s q).1 = some l) : sBkF B q e = ((B l e).1, (B l e).2.1, 5 + (sFnd s q).2 + (B l e).2.2.1, 330 + 5 * (sFnd s q).2 + (B l e).2.2.2) := by
  unfold sBkF
  rw [hs, h, h2]
  rfl
theorem sBkR_t {F : Nat → sLe → sRz} {r : sR} {rs : List sR} {e : sLe} (h : (F r.1 e).1 = true) : sBkR F (r :: rs) e = ((sBkR F rs (F r.1 e).2.1).1, (sBkR F rs (F r.1 e).2.1).2.1, (F r.1 e).2.2.1 + (sBkR F rs (F r.1 e).2.1).2.2.1, (F r.1 e).2.2.2 + (sBkR F rs (F r.1 e).2.1).2.2.2) := if_pos h
theorem sBkR_f {F : Nat → sLe → sRz} {r : sR} {rs : List sR} {e : sLe} (h : (F r.1 e).1 = false) : sBkR F (r :: rs) e = F r.1 e := if_neg (by rw [h]; decide)
/-- rows that are primes below some power of two -/
def sLow (d : Nat) (rs : List sR) : Prop := ∀ r ∈ rs, pn_prime r.1 ∧ r.1 < 2 ^ d
theorem pn_odd {q : Nat} (h : pn_prime q) (h2 : 2 < q) : q % 2 = 1 := by
  rcases Nat.lt_or_ge q 4 with g | g
  · obtain rfl : q = 3 := by omega
    rfl
  · have := h.2 2 (Nat.le_refl _) (by omega)
    omega
theorem sfac_mem {n : Nat} (h0 : 0 < n) (hn : n < 2 ^ 31) {x : Nat × Nat} (hx : x ∈ sfac n) : pn_prime x.1 ∧ n % x.1 = 0 := by
  obtain ⟨e, ok, -⟩ := sfac_ok n h0 hn
  refine ⟨(ok x hx).1, ?_⟩
  have hd : ∀ fs : List (Nat × Nat), (∀ y ∈ fs, 1 ≤ y.2) → x ∈ fs → fPr fs % x.1 = 0 := by
    intro fs
    induction fs with
    | nil => intro _ h; exact absurd h List.not_mem_nil
    | cons y ys ih =>
      intro h1 hm
      rw [fPr_cons]
      rcases List.mem_cons.mp hm with rfl | hm
      · have := h1 x List.mem_cons_self
        obtain ⟨j, hj⟩ : ∃ j, x.2 = j + 1 := ⟨x.2 - 1, by omega⟩
        rw [hj, Nat.pow_succ, Nat.mul_comm (x.1 ^ j) x.1, Nat.mul_assoc]
        exact Nat.mul_mod_right _ _
      · have := Nat.dvd_of_mod_eq_zero (ih (fun z hz => h1 z (List.mem_cons_of_mem _ hz)) hm)
        exact Nat.mod_eq_zero_of_dvd (Nat.dvd_trans this (Nat.dvd_mul_left _ _))
  have := hd (sfac n) (fun y hy => (ok y hy).2.1) hx
  rw [e] at this
  exact this
/-- the primes of n - 1, n odd, are at most half of it, or two -/
theorem sfac_half {n : Nat} (h3 : 3 ≤ n) (hn : n < 2 ^ 31) (ho : n % 2 = 1) {x : Nat × Nat} (hx : x ∈ sfac (n - 1)) : pn_prime x.1 ∧ (2 * x.1 ≤ n - 1 ∨ x.1 = 2) := by
  obtain ⟨hp, hd⟩ := sfac_mem (by omega) (by omega) hx
  refine ⟨hp, ?_⟩
  rcases Nat.lt_or_ge 2 x.1 with g | g
  · left
    have hodd := pn_odd hp g
    obtain ⟨c, hc⟩ := Nat.dvd_of_mod_eq_zero hd
    have hc2 : 2 ≤ c := by
      rcases Nat.lt_or_ge c 2 with g2 | g2
      · have : c = 0 ∨ c = 1 := by omega
        rcases this with rfl | rfl
        · omega
        · omega
      · exact g2
    have := Nat.mul_le_mul_left x.1 hc2
    omega
  · right
    have := hp.1
    omega
theorem mem_rw0 {fs : List (Nat × Nat)} {r : sR} (h : r ∈ rw0 fs) : ∃ x ∈ fs, x.1 = r.1 := by
  unfold rw0 at h
  obtain ⟨x, hx, e⟩ := List.mem_map.mp h
  exact ⟨x, hx, by rw [← e]⟩
theorem mem_wB {rs : List sR} {a : Nat} {r : sR} (h : r ∈ rs.map (wB a)) : ∃ x ∈ rs, x.1 = r.1 := by
  obtain ⟨x, hx, e⟩ := List.mem_map.mp h
  exact ⟨x, hx, by rw [← e]; rfl⟩
/-- rows of a line that is needed are lower by a half -/
theorem sLow_child {q d : Nat} {l : sLn} (hp : pn_prime q) (hq : q < 2 ^ (d + 1)) (hq30 : q < 2 ^ 31) (h : (sFnd (if q < 100 then 0 else 1) q).1 = some l) : sLow d l.2.2.2.1 ∧ sLow d l.2.2.2.2 := by
  by_cases h1 : q < 100
  · rw [if_pos h1] at h
    have h := Option.some.inj h
    subst h
    exact ⟨fun r hr => absurd hr List.not_mem_nil, fun r hr => absurd hr List.not_mem_nil⟩
  · rw [if_neg h1] at h
    have h : (sBase q (rw0 (sfac (q - 1)))).1.map (fun a => ((q, 1, (0, 0), (rw0 (sfac (q - 1))).map (wB a), []) : sLn)) = some l := h
    cases ho : (sBase q (rw0 (sfac (q - 1)))).1 with
    | none => rw [ho] at h; cases h
    | some a =>
      rw [ho] at h
      have h := Option.some.inj h
      subst h
      refine ⟨fun r hr => ?_, fun r hr => absurd hr List.not_mem_nil⟩
      obtain ⟨x, hx, e⟩ := mem_wB hr
      obtain ⟨y, hy, e2⟩ := mem_rw0 hx
      obtain ⟨p1, p2⟩ := sfac_half (n := q) (by omega) hq30 (pn_odd hp (by omega)) hy
      rw [e2, e] at p1 p2
      refine ⟨p1, ?_⟩
      rw [Nat.pow_succ] at hq
      rcases p2 with g | g
      · omega
      · rw [g]
        rcases Nat.lt_or_ge d 2 with g2 | g2
        · have : (2 : Nat) ^ d ≤ 2 ^ 1 := Nat.pow_le_pow_right (by omega) (by omega)
          omega
        · have : (2 : Nat) ^ 2 ≤ 2 ^ d := Nat.pow_le_pow_right (by omega) g2
          omega
