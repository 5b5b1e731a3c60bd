/-! all rows come to a line -/
theorem fPr_mem : ∀ (fs : List (Nat × Nat)) (x : Nat × Nat), x ∈ fs → x.1 ^ x.2 ∣ fPr fs := by
  intro fs
  induction fs with
  | nil => intro x hx; exact (List.not_mem_nil hx).elim
  | cons y fs ih =>
    intro x hx
    rw [fPr_cons]
    rcases List.mem_cons.mp hx with rfl | h
    · exact Nat.dvd_mul_right _ _
    · exact Nat.dvd_mul_left_of_dvd (ih x h) _
theorem sfac_rok (n : Nat) (h0 : 0 < n) (hn : n ≤ 1000000001) : ∀ x ∈ sfac n, sRok (x.1, x.2, 0) := by
  obtain ⟨e, h⟩ := sfac_ok n h0 (by omega)
  intro x hx
  obtain ⟨h1, h2, h3⟩ := h.1 x hx
  have hd := fPr_mem _ x hx
  rw [e] at hd
  have hle := Nat.le_of_dvd h0 hd
  have hq : x.1 ≤ x.1 ^ x.2 := by
    have := Nat.pow_le_pow_right (n := x.1) (by omega) h2
    rw [Nat.pow_one] at this
    exact this
  have he : 2 ^ x.2 ≤ x.1 ^ x.2 := Nat.pow_le_pow_left h3 _
  refine ⟨⟨h3, by show x.1 ≤ 1000000001; omega⟩, ⟨h2, ?_⟩, by show 0 ≤ 999; omega⟩
  show x.2 ≤ 30
  rcases Nat.lt_or_ge x.2 31 with h4 | h4
  · omega
  · have := Nat.pow_le_pow_right (n := 2) (by omega) h4
    omega
def rw0 (fs : List (Nat × Nat)) : List sR := fs.map (fun x => (x.1, x.2, 0))
theorem rw0_len (fs : List (Nat × Nat)) : (rw0 fs).length = fs.length := by unfold rw0; rw [List.length_map]
/-- what has been laid into an object: rows that lie at new addresses -/
def zLy (ζ : pZ) (τ t : pH) (a b : Nat) (as : List Nat) (rs : List sR) (c s : Nat) : Prop := zRs ζ t a b as ∧ zRw ζ t as rs ∧ (∀ x ∈ as, τ.1 ≤ x ∧ x < t.1) ∧ as.Nodup ∧ zk (fun q => q = a ∨ q = b) τ t c s
theorem take_snoc {α : Type} (l : List α) (i : Nat) (h : i < l.length) : l.take i ++ [l[i]] = l.take (i + 1) := (List.take_append_getElem h)
theorem hl_laL_6 (K : Nat) (ζ : pZ) (τ0 : pH) (to tb a b it : Nat) (as : List Nat) (rs : List sR) (hto : to < τ0.1) (htb : tb < τ0.1) (ha : τ0.1 ≤ a) (hb : τ0.1 ≤ b) (hit : τ0.1 ≤ it) (hia : it ≠ a) (hib : it ≠ b) (his : it ∉ as) (has : ∀ x ∈ as, τ0.1 ≤ x) (hnd : as.Nodup) : ∀ m i kk τ c s, i + m = as.length → zk (fun q => q = to ∨ q = tb) τ0 τ c s → zin ζ τ it (itE i a) → zRs ζ τ a b as → zRw ζ τ as rs → zRs ζ τ to tb (as.take i) → m + 1 ≤ kk →
    zR τ ((lfX6_laysAll_6 K ζ kk) to it τ) (fun _ t => zRs ζ t to tb as ∧ zRw ζ t as rs ∧ zk (fun q => q = to ∨ q = tb) τ0 t c s) := by
  intro m
  induction m with
  | zero =>
    intro i kk τ c s hi hk hI hr hw hT hkk
    obtain ⟨k, rfl⟩ : ∃ j, kk = j + 1 := ⟨kk - 1, by omega⟩
    rw [luX6_laysAll_6_1]
    refine zR_each K ζ τ it i a b as _ _ _ hI hr hia hib (by omega) (fun _ => zR_r ?_) (fun h => absurd h (by omega))
    rw [List.take_of_length_le (by omega)] at hT
    exact ⟨hT, hw, hk⟩
  | succ m ih =>
    intro i kk τ c s hi hk hI hr hw hT hkk
    obtain ⟨k, rfl⟩ : ∃ j, kk = j + 1 := ⟨kk - 1, by omega⟩
    rw [luX6_laysAll_6_1]
    refine zR_each K ζ τ it i a b as _ _ _ hI hr hia hib (by omega) (fun h => absurd h (by omega)) (fun hil => ?_)
    have hl9 : as.length ≤ 9 := by obtain ⟨f, -, -, g, -⟩ := hr; exact g
    have hlr : i < rs.length := by rw [← hw.1]; exact hil
    have k0 : zk (fun q => q = it) τ (zst τ it (itE (i + 1) a)) 0 0 := zk_st rfl
    have hrow := k0.in (hw.2 i hil hlr) (fun e => his (e ▸ List.getElem_mem hil))
    have hT0 := hT.k k0 (fun e => by omega) (fun e => by omega)
    have hr0 := hr.k k0 (Ne.symm hia) (Ne.symm hib)
    have hw0 := hw.k k0 (fun x hx e => his (e ▸ hx))
    obtain ⟨fs, ho⟩ := hT0.o
    have hai := has _ (List.getElem_mem hil)
    refine zR_b hrow.ob (zR_b ho ?_)
    obtain ⟨s6, b1, b2, b3, b4⟩ := hr_adds K ζ (zst τ it (itE (i + 1) a)) to tb as[i] (as.take i) rs[i] hT0 (by rw [List.length_take]; omega) hrow (by omega) (by omega)
    rw [take_snoc as i hil] at b3
    refine zR_cl (Q := fun v t => t = s6) (zR_eq b1 rfl b2.1) ?_
    intro v t _ P
    obtain rfl : t = s6 := P
    have nn : ∀ x, τ0.1 ≤ x → ¬ (x = to ∨ x = tb) := fun x hx e => by omega
    have hk1 : zk (fun q => q = to ∨ q = tb) τ0 t (c + 0) (s + 0) := (hk.new (k0.wk (fun x _ e => (Or.inr (by rw [e]; exact hit) : (x = to ∨ x = tb) ∨ τ0.1 ≤ x)))).tr b2
    exact ih (i + 1) k t c s (by omega) hk1 (b2.in (zin_st hI.1) (nn _ hit)) (hr0.k b2 (nn _ ha) (nn _ hb)) (hw0.k b2 (fun x hx => nn x (has x hx))) b3 (by omega)
theorem hl_laysAll_6 (K : Nat) (ζ : pZ) (τ : pH) (x to tb n : Nat) (hζ : ζ.1 ≤ τ.1) (hT : zRs ζ τ to tb []) (h0 : 0 < n) (hn : n ≤ 1000000001) (hK : 2 ^ 50 ≤ K) : zR τ (fnX6_laysAll_6 K ζ x to (lN n) τ) (fun _ t => ∃ as, zLy ζ τ t to tb as (rw0 (sfac n)) (3 + (sfac n).length) (13 + 3 * (sfac n).length)) := by
  unfold fnX6_laysAll_6
  refine zR_cl (hx_factors K ζ τ n hζ h0 (by omega) (fp_len n h0 hn) hK) (fun v s g P => ?_)
  obtain ⟨rfl, as, k1, hr, hw, has, hnd⟩ := P
  obtain ⟨fs, ho⟩ := hr.o
  have z1 : ζ.1 ≤ s.1 := Nat.le_trans hζ g.1
  refine zR_b ho (zR_cl (Q := fun v t => v = s.1 ∧ t = znw s 2 (itE 0 τ.1)) (zR_eq (hr_iter K ζ s τ.1 z1) ⟨rfl, rfl⟩ ⟨Nat.le_succ _, Nat.le_add_right _ _⟩) ?_)
  intro v t _ P
  obtain ⟨rfl, rfl⟩ := P
  have k2 : zk zno s (znw s 2 (itE 0 τ.1)) 1 2 := zk_nw
  have k12 := (k1.tr k2).wk (S' := fun q => q = to ∨ q = tb) (fun _ _ e => e.elim)
  have hT1 : zRs ζ (znw s 2 (itE 0 τ.1)) to tb [] := hT.k (k1.tr k2) (fun e => e) (fun e => e)
  obtain ⟨f0, t1, t2, -, -, -⟩ := hT
  have hl9 : as.length ≤ 9 := by obtain ⟨f, -, -, g, -⟩ := hr; exact g
  refine zR_imp (hl_laL_6 K ζ τ to tb τ.1 (τ.1 + 1) s.1 as _ t1.1.2 t2.1.2 (Nat.le_refl _) (Nat.le_succ _) g.1 ?_ ?_ ?_ (fun x hx => by have := (has x hx).1; omega) hnd as.length 0 K _ _ _ (by omega) k12 (zin_nw z1) (k2.R hr) (k2.W hw) hT1 (by omega)) (fun v t g2 P => ⟨as, P.1, P.2.1, fun x hx => ?_, hnd, P.2.2.le (by omega) (by omega)⟩)
  · obtain ⟨f, q, -⟩ := hr
    exact Nat.ne_of_gt q.1.2
  · obtain ⟨f, -, q, -⟩ := hr
    exact Nat.ne_of_gt q.1.2
  · intro hx
    exact Nat.lt_irrefl _ (has _ hx).2
  · have h1 := has x hx
    have h2 := g2.1
    have h3 : (znw s 2 (itE 0 τ.1)).1 = s.1 + 1 := rfl
    omega
theorem hl_laL_8 (K : Nat) (ζ : pZ) (τ0 : pH) (to tb a b it : Nat) (as : List Nat) (rs : List sR) (hto : to < τ0.1) (htb : tb < τ0.1) (ha : τ0.1 ≤ a) (hb : τ0.1 ≤ b) (hit : τ0.1 ≤ it) (hia : it ≠ a) (hib : it ≠ b) (his : it ∉ as) (has : ∀ x ∈ as, τ0.1 ≤ x) (hnd : as.Nodup) : ∀ m i kk τ c s, i + m = as.length → zk (fun q => q = to ∨ q = tb) τ0 τ c s → zin ζ τ it (itE i a) → zRs ζ τ a b as → zRw ζ τ as rs → zRs ζ τ to tb (as.take i) → m + 1 ≤ kk →
    zR τ ((lfX6_laysAll_8 K ζ kk) to it τ) (fun _ t => zRs ζ t to tb as ∧ zRw ζ t as rs ∧ zk (fun q => q = to ∨ q = tb) τ0 t c s) := by
  intro m
  induction m with
  | zero =>
    intro i kk τ c s hi hk hI hr hw hT hkk
    obtain ⟨k, rfl⟩ : ∃ j, kk = j + 1 := ⟨kk - 1, by omega⟩
    rw [luX6_laysAll_8_1]
    refine zR_each K ζ τ it i a b as _ _ _ hI hr hia hib (by omega) (fun _ => zR_r ?_) (fun h => absurd h (by omega))
    rw [List.take_of_length_le (by omega)] at hT
    exact ⟨hT, hw, hk⟩
  | succ m ih =>
    intro i kk τ c s hi hk hI hr hw hT hkk
    obtain ⟨k, rfl⟩ : ∃ j, kk = j + 1 := ⟨kk - 1, by omega⟩
    rw [luX6_laysAll_8_1]
    refine zR_each K ζ τ it i a b as _ _ _ hI hr hia hib (by omega) (fun h => absurd h (by omega)) (fun hil => ?_)
    have hl9 : as.length ≤ 9 := by obtain ⟨f, -, -, g, -⟩ := hr; exact g
    have hlr : i < rs.length := by rw [← hw.1]; exact hil
    have k0 : zk (fun q => q = it) τ (zst τ it (itE (i + 1) a)) 0 0 := zk_st rfl
    have hrow := k0.in (hw.2 i hil hlr) (fun e => his (e ▸ List.getElem_mem hil))
    have hT0 := hT.k k0 (fun e => by omega) (fun e => by omega)
    have hr0 := hr.k k0 (Ne.symm hia) (Ne.symm hib)
    have hw0 := hw.k k0 (fun x hx e => his (e ▸ hx))
    obtain ⟨fs, ho⟩ := hT0.o
    have hai := has _ (List.getElem_mem hil)
    refine zR_b hrow.ob (zR_b ho ?_)
    obtain ⟨s6, b1, b2, b3, b4⟩ := hr_adds K ζ (zst τ it (itE (i + 1) a)) to tb as[i] (as.take i) rs[i] hT0 (by rw [List.length_take]; omega) hrow (by omega) (by omega)
    rw [take_snoc as i hil] at b3
    refine zR_cl (Q := fun v t => t = s6) (zR_eq b1 rfl b2.1) ?_
    intro v t _ P
    obtain rfl : t = s6 := P
    have nn : ∀ x, τ0.1 ≤ x → ¬ (x = to ∨ x = tb) := fun x hx e => by omega
    have hk1 : zk (fun q => q = to ∨ q = tb) τ0 t (c + 0) (s + 0) := (hk.new (k0.wk (fun x _ e => (Or.inr (by rw [e]; exact hit) : (x = to ∨ x = tb) ∨ τ0.1 ≤ x)))).tr b2
    exact ih (i + 1) k t c s (by omega) hk1 (b2.in (zin_st hI.1) (nn _ hit)) (hr0.k b2 (nn _ ha) (nn _ hb)) (hw0.k b2 (fun x hx => nn x (has x hx))) b3 (by omega)
theorem hl_laysAll_8 (K : Nat) (ζ : pZ) (τ : pH) (x to tb n : Nat) (hζ : ζ.1 ≤ τ.1) (hT : zRs ζ τ to tb []) (h0 : 0 < n) (hn : n ≤ 1000000001) (hK : 2 ^ 50 ≤ K) : zR τ (fnX6_laysAll_8 K ζ x to (lN n) τ) (fun _ t => ∃ as, zLy ζ τ t to tb as (rw0 (sfac n)) (3 + (sfac n).length) (13 + 3 * (sfac n).length)) := by
  unfold fnX6_laysAll_8
  refine zR_cl (hx_factors K ζ τ n hζ h0 (by omega) (fp_len n h0 hn) hK) (fun v s g P => ?_)
  obtain ⟨rfl, as, k1, hr, hw, has, hnd⟩ := P
  obtain ⟨fs, ho⟩ := hr.o
  have z1 : ζ.1 ≤ s.1 := Nat.le_trans hζ g.1
  refine zR_b ho (zR_cl (Q := fun v t => v = s.1 ∧ t = znw s 2 (itE 0 τ.1)) (zR_eq (hr_iter K ζ s τ.1 z1) ⟨rfl, rfl⟩ ⟨Nat.le_succ _, Nat.le_add_right _ _⟩) ?_)
  intro v t _ P
  obtain ⟨rfl, rfl⟩ := P
  have k2 : zk zno s (znw s 2 (itE 0 τ.1)) 1 2 := zk_nw
  have k12 := (k1.tr k2).wk (S' := fun q => q = to ∨ q = tb) (fun _ _ e => e.elim)
  have hT1 : zRs ζ (znw s 2 (itE 0 τ.1)) to tb [] := hT.k (k1.tr k2) (fun e => e) (fun e => e)
  obtain ⟨f0, t1, t2, -, -, -⟩ := hT
  have hl9 : as.length ≤ 9 := by obtain ⟨f, -, -, g, -⟩ := hr; exact g
  refine zR_imp (hl_laL_8 K ζ τ to tb τ.1 (τ.1 + 1) s.1 as _ t1.1.2 t2.1.2 (Nat.le_refl _) (Nat.le_succ _) g.1 ?_ ?_ ?_ (fun x hx => by have := (has x hx).1; omega) hnd as.length 0 K _ _ _ (by omega) k12 (zin_nw z1) (k2.R hr) (k2.W hw) hT1 (by omega)) (fun v t g2 P => ⟨as, P.1, P.2.1, fun x hx => ?_, hnd, P.2.2.le (by omega) (by omega)⟩)
  · obtain ⟨f, q, -⟩ := hr
    exact Nat.ne_of_gt q.1.2
  · obtain ⟨f, -, q, -⟩ := hr
    exact Nat.ne_of_gt q.1.2
  · intro hx
    exact Nat.lt_irrefl _ (has _ hx).2
  · have h1 := has x hx
    have h2 := g2.1
    have h3 : (znw s 2 (itE 0 τ.1)).1 = s.1 + 1 := rfl
    omega
