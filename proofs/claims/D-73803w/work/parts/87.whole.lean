/-! whether rows come to what they must, and are enough -/
def sWhole (s n f g : Nat) : Bool := match s with
  | 0 => true
  | 1 => decide (f = n - 1)
  | 2 => decide ((n - 1) % f = 0)
  | 3 => decide (g = n + 1)
  | _ => decide ((n - 1) % f = 0 ∧ (n + 1) % g = 0)
def sLit (n m : Nat) : Bool := decide (m * m ≤ n) || !(decide (n % m ≤ 1) || decide (n % m = n) || decide (¬ n % (n % m) = 0))
def sEnough (s n f g : Nat) : Bool := match s with
  | 2 => decide (n < f * f)
  | 4 => !sLit n (f / Nat.gcd f g * g)
  | _ => true
theorem sPw_pos (q : Nat) (hq : 1 ≤ q) : ∀ e all, 1 ≤ all → 1 ≤ sPw q e all := by
  intro e
  induction e with
  | zero => intro all h; exact h
  | succ e ih =>
    intro all h
    rw [sPw_s]
    refine ih _ (Nat.le_min.mpr ⟨by omega, ?_⟩)
    exact Nat.mul_le_mul h hq
theorem sProdF_pos : ∀ (rs : List sR), (∀ r ∈ rs, sRok r) → ∀ all, 1 ≤ all → 1 ≤ sProdF all rs := by
  intro rs
  induction rs with
  | nil => intro _ all h; exact h
  | cons r rs ih => intro hok all h; exact ih (fun x hx => hok x (List.mem_cons_of_mem _ hx)) _ (sPw_pos _ (by have := (hok r List.mem_cons_self).1.1; omega) _ _ h)
theorem sProd_pos (rs : List sR) (hok : ∀ r ∈ rs, sRok r) : 1 ≤ sProd rs := sProdF_pos rs hok 1 (Nat.le_refl _)
/-- a line on the heap -/
def zLx (ζ : pZ) (τ : pH) (c x s n p q d db u ub h : Nat) (das uas : List Nat) (dn up : List sR) : Prop := zin ζ τ x (lnE c s n p q d u h) ∧ (zRs ζ τ d db das ∧ zRw ζ τ das dn ∧ zRs ζ τ u ub uas ∧ zRw ζ τ uas up) ∧ (∀ r ∈ dn, sRok r) ∧ (∀ r ∈ up, sRok r) ∧ (2 ≤ n ∧ n ≤ 1000000000) ∧ p ≤ 99 ∧ q ≤ 99
theorem zLx.k {ζ : pZ} {τ τ' : pH} {c x s n p q d db u ub h a b : Nat} {das uas : List Nat} {dn up : List sR} (H : zLx ζ τ c x s n p q d db u ub h das uas dn up) (k : zk zno τ τ' a b) : zLx ζ τ' c x s n p q d db u ub h das uas dn up :=
  ⟨k.i H.1, ⟨k.R H.2.1.1, k.W H.2.1.2.1, k.R H.2.1.2.2.1, k.W H.2.1.2.2.2⟩, H.2.2⟩
theorem hl_prodD (K : Nat) (ζ : pZ) (τ : pH) (c x s n p q d db u ub h : Nat) (das uas : List Nat) (dn up : List sR) (hζ : ζ.1 ≤ τ.1) (H : zLx ζ τ c x s n p q d db u ub h das uas dn up) (hK : 1000 ≤ K) : zR τ (fnX8_product K ζ d τ) (fun v t => v = lN (sProd dn) ∧ zc5 τ t 1) :=
  zR_imp (hx_product K ζ τ d db das dn hζ H.2.1.1 H.2.1.2.1 H.2.2.1 hK) (fun _ _ _ P => ⟨P.1, P.2.le (Nat.le_refl _) (by omega)⟩)
theorem hl_prodU (K : Nat) (ζ : pZ) (τ : pH) (c x s n p q d db u ub h : Nat) (das uas : List Nat) (dn up : List sR) (hζ : ζ.1 ≤ τ.1) (H : zLx ζ τ c x s n p q d db u ub h das uas dn up) (hK : 1000 ≤ K) : zR τ (fnX8_product K ζ u τ) (fun v t => v = lN (sProd up) ∧ zc5 τ t 1) :=
  zR_imp (hx_product K ζ τ u ub uas up hζ H.2.1.2.2.1 H.2.1.2.2.2 H.2.2.2.1 hK) (fun _ _ _ P => ⟨P.1, P.2.le (Nat.le_refl _) (by omega)⟩)
theorem zRs.o {ζ : pZ} {τ : pH} {a b : Nat} {as : List Nat} (h : zRs ζ τ a b as) : ∃ fs, zob ζ τ a 10 = some fs := by
  obtain ⟨f, ha, -⟩ := h
  exact ⟨_, ha.ob⟩
theorem nb_if {c : Prop} {dc : Decidable c} {τ : pH} {b : Bool} (h : b = true ↔ c) : (@ite _ c dc (some ((1 : Int32), τ)) (some (0, τ))) = some (nb b, τ) := by
  by_cases hc : c
  · rw [if_pos hc, h.mpr hc]; rfl
  · rw [if_neg hc]
    cases b with
    | false => rfl
    | true => exact absurd (h.mp rfl) hc
theorem nb_if0 {c : Prop} {dc : Decidable c} {τ : pH} {b : Bool} (h : b = false ↔ c) : (@ite _ c dc (some ((0 : Int32), τ)) (some (1, τ))) = some (nb b, τ) := by
  by_cases hc : c
  · rw [if_pos hc, h.mpr hc]; rfl
  · rw [if_neg hc]
    cases b with
    | true => rfl
    | false => exact absurd (h.mp rfl) hc
theorem hl_isWhole_5 (K : Nat) (ζ : pZ) (τ : pH) (x s n p q d db u ub h : Nat) (das uas : List Nat) (dn up : List sR) (hζ : ζ.1 ≤ τ.1) (hK : 1000 ≤ K) (_H : zLx ζ τ 5 x s n p q d db u ub h das uas dn up) : zR τ (fnX7_isWhole K ζ x τ) (fun v t => v = nb (sWhole 0 n (sProd dn) (sProd up)) ∧ zc5 τ t 2) := zR_r ⟨rfl, zk.rfl.le (by omega) (by omega)⟩
theorem hl_isEnough_5 (K : Nat) (ζ : pZ) (τ : pH) (x s n p q d db u ub h : Nat) (das uas : List Nat) (dn up : List sR) (hζ : ζ.1 ≤ τ.1) (hK : 1000 ≤ K) (_H : zLx ζ τ 5 x s n p q d db u ub h das uas dn up) (_hw : sWhole 0 n (sProd dn) (sProd up) = true) : zR τ (fnX6_isEnough_5 K ζ x τ) (fun v t => v = nb (sEnough 0 n (sProd dn) (sProd up)) ∧ zc5 τ t 2) := zR_r ⟨rfl, zk.rfl.le (by omega) (by omega)⟩
theorem hl_isEnough_6 (K : Nat) (ζ : pZ) (τ : pH) (x s n p q d db u ub h : Nat) (das uas : List Nat) (dn up : List sR) (hζ : ζ.1 ≤ τ.1) (hK : 1000 ≤ K) (_H : zLx ζ τ 6 x s n p q d db u ub h das uas dn up) (_hw : sWhole 1 n (sProd dn) (sProd up) = true) : zR τ (fnX6_isEnough_6 K ζ x τ) (fun v t => v = nb (sEnough 1 n (sProd dn) (sProd up)) ∧ zc5 τ t 2) := zR_r ⟨rfl, zk.rfl.le (by omega) (by omega)⟩
theorem hl_isEnough_8 (K : Nat) (ζ : pZ) (τ : pH) (x s n p q d db u ub h : Nat) (das uas : List Nat) (dn up : List sR) (hζ : ζ.1 ≤ τ.1) (hK : 1000 ≤ K) (_H : zLx ζ τ 8 x s n p q d db u ub h das uas dn up) (_hw : sWhole 3 n (sProd dn) (sProd up) = true) : zR τ (fnX6_isEnough_8 K ζ x τ) (fun v t => v = nb (sEnough 3 n (sProd dn) (sProd up)) ∧ zc5 τ t 2) := zR_r ⟨rfl, zk.rfl.le (by omega) (by omega)⟩
theorem hl_isWhole_6 (K : Nat) (ζ : pZ) (τ : pH) (x s n p q d db u ub h : Nat) (das uas : List Nat) (dn up : List sR) (hζ : ζ.1 ≤ τ.1) (hK : 1000 ≤ K) (H : zLx ζ τ 6 x s n p q d db u ub h das uas dn up) : zR τ (fnX9_isWhole K ζ x τ) (fun v t => v = nb (sWhole 1 n (sProd dn) (sProd up)) ∧ zc5 τ t 2) := by
  obtain ⟨fs, ho⟩ := H.2.1.1.o
  have hn := H.2.2.2.2.1
  unfold fnX9_isWhole
  simp only [H.1.ob, dzb, dzc, dzl, fl0, fl1, fl2, fl3, fl4, fl5, fl6, fl7, fi0, fi1, fi2, fi3, fi4, fi5, fi6, fi7, fr0, fr1, fr2, fr3, fr4, fr5, fr6, fr7, fs0, fs1, fs2, fs3, fs4, fs5, fs6, fs7]
  refine zR_b ho (zR_cl (hl_prodD K ζ τ 6 x s n p q d db u ub h das uas dn up hζ H hK) (fun v t _ P => ?_))
  obtain ⟨rfl, k⟩ := P
  have hL := k.i H.1
  have hb := sProd_le dn
  simp only [hL.ob, dzb, dzc, dzl, fl0, fl1, fl2, fl3, fl4, fl5, fl6, fl7, fi0, fi1, fi2, fi3, fi4, fi5, fi6, fi7, fr0, fr1, fr2, fr3, fr4, fr5, fr6, fr7, fs0, fs1, fs2, fs3, fs4, fs5, fs6, fs7]
  rw [lN_m1 (by omega)]
  exact zR_eq (nb_if (b := sWhole 1 n (sProd dn) (sProd up)) (by rw [pk_lEQ (by omega) (by omega)]; exact decide_eq_true_iff)) ⟨rfl, k.le (by omega) (by omega)⟩ zge.rfl
theorem hl_isWhole_8 (K : Nat) (ζ : pZ) (τ : pH) (x s n p q d db u ub h : Nat) (das uas : List Nat) (dn up : List sR) (hζ : ζ.1 ≤ τ.1) (hK : 1000 ≤ K) (H : zLx ζ τ 8 x s n p q d db u ub h das uas dn up) : zR τ (fnX11_isWhole K ζ x τ) (fun v t => v = nb (sWhole 3 n (sProd dn) (sProd up)) ∧ zc5 τ t 2) := by
  obtain ⟨fs, ho⟩ := H.2.1.2.2.1.o
  have hn := H.2.2.2.2.1
  unfold fnX11_isWhole
  simp only [H.1.ob, dzb, dzc, dzl, fl0, fl1, fl2, fl3, fl4, fl5, fl6, fl7, fi0, fi1, fi2, fi3, fi4, fi5, fi6, fi7, fr0, fr1, fr2, fr3, fr4, fr5, fr6, fr7, fs0, fs1, fs2, fs3, fs4, fs5, fs6, fs7]
  refine zR_b ho (zR_cl (hl_prodU K ζ τ 8 x s n p q d db u ub h das uas dn up hζ H hK) (fun v t _ P => ?_))
  obtain ⟨rfl, k⟩ := P
  have hL := k.i H.1
  have hb := sProd_le up
  simp only [hL.ob, dzb, dzc, dzl, fl0, fl1, fl2, fl3, fl4, fl5, fl6, fl7, fi0, fi1, fi2, fi3, fi4, fi5, fi6, fi7, fr0, fr1, fr2, fr3, fr4, fr5, fr6, fr7, fs0, fs1, fs2, fs3, fs4, fs5, fs6, fs7]
  rw [lN_1]
  exact zR_eq (nb_if (b := sWhole 3 n (sProd dn) (sProd up)) (by rw [pk_lEQ (by omega) (by omega)]; exact decide_eq_true_iff)) ⟨rfl, k.le (by omega) (by omega)⟩ zge.rfl
theorem hl_isWhole_7 (K : Nat) (ζ : pZ) (τ : pH) (x s n p q d db u ub h : Nat) (das uas : List Nat) (dn up : List sR) (hζ : ζ.1 ≤ τ.1) (hK : 1000 ≤ K) (H : zLx ζ τ 7 x s n p q d db u ub h das uas dn up) : zR τ (fnX10_isWhole K ζ x τ) (fun v t => v = nb (sWhole 2 n (sProd dn) (sProd up)) ∧ zc5 τ t 2) := by
  obtain ⟨fs, ho⟩ := H.2.1.1.o
  have hn := H.2.2.2.2.1
  unfold fnX10_isWhole
  simp only [H.1.ob, dzb, dzc, dzl, fl0, fl1, fl2, fl3, fl4, fl5, fl6, fl7, fi0, fi1, fi2, fi3, fi4, fi5, fi6, fi7, fr0, fr1, fr2, fr3, fr4, fr5, fr6, fr7, fs0, fs1, fs2, fs3, fs4, fs5, fs6, fs7]
  refine zR_b ho (zR_cl (hl_prodD K ζ τ 7 x s n p q d db u ub h das uas dn up hζ H hK) (fun v t _ P => ?_))
  obtain ⟨rfl, k⟩ := P
  have hb := sProd_le dn
  have hp := sProd_pos dn H.2.2.1
  refine zR_t (pz_nz hp (by omega)) ?_
  have hm : (n - 1) % sProd dn ≤ n - 1 := Nat.mod_le _ _
  rw [lN_m1 (by omega), pk_lRem (by omega) hp (by omega)]
  exact zR_eq (nb_if (b := sWhole 2 n (sProd dn) (sProd up)) (by rw [lN0 (by omega)]; exact decide_eq_true_iff)) ⟨rfl, k.le (by omega) (by omega)⟩ zge.rfl
theorem hl_isWhole_9 (K : Nat) (ζ : pZ) (τ : pH) (x s n p q d db u ub h : Nat) (das uas : List Nat) (dn up : List sR) (hζ : ζ.1 ≤ τ.1) (hK : 1000 ≤ K) (H : zLx ζ τ 9 x s n p q d db u ub h das uas dn up) : zR τ (fnX12_isWhole K ζ x τ) (fun v t => v = nb (sWhole 4 n (sProd dn) (sProd up)) ∧ zc5 τ t 2) := by
  obtain ⟨fs, ho⟩ := H.2.1.1.o
  have hn := H.2.2.2.2.1
  unfold fnX12_isWhole
  simp only [H.1.ob, dzb, dzc, dzl, fl0, fl1, fl2, fl3, fl4, fl5, fl6, fl7, fi0, fi1, fi2, fi3, fi4, fi5, fi6, fi7, fr0, fr1, fr2, fr3, fr4, fr5, fr6, fr7, fs0, fs1, fs2, fs3, fs4, fs5, fs6, fs7]
  refine zR_b ho (zR_cl (hl_prodD K ζ τ 9 x s n p q d db u ub h das uas dn up hζ H hK) (fun v t g P => ?_))
  obtain ⟨rfl, k⟩ := P
  have hb := sProd_le dn
  have hp := sProd_pos dn H.2.2.1
  refine zR_t (pz_nz hp (by omega)) ?_
  have hm : (n - 1) % sProd dn ≤ n - 1 := Nat.mod_le _ _
  rw [lN_m1 (by omega), pk_lRem (by omega) hp (by omega)]
  by_cases h1 : (n - 1) % sProd dn = 0
  · refine zR_t ((lN0 (by omega)).mpr h1) ?_
    have H1 := H.k k
    obtain ⟨fs, ho⟩ := H1.2.1.2.2.1.o
    simp only [H1.1.ob, dzb, dzc, dzl, fl0, fl1, fl2, fl3, fl4, fl5, fl6, fl7, fi0, fi1, fi2, fi3, fi4, fi5, fi6, fi7, fr0, fr1, fr2, fr3, fr4, fr5, fr6, fr7, fs0, fs1, fs2, fs3, fs4, fs5, fs6, fs7]
    refine zR_b ho (zR_cl (hl_prodU K ζ t 9 x s n p q d db u ub h das uas dn up (Nat.le_trans hζ g.1) H1 hK) (fun v t' _ P => ?_))
    obtain ⟨rfl, k'⟩ := P
    have hb := sProd_le up
    have hp := sProd_pos up H.2.2.2.1
    refine zR_t (pz_nz hp (by omega)) ?_
    have hm : (n + 1) % sProd up ≤ n + 1 := Nat.mod_le _ _
    rw [lN_1, pk_lRem (by omega) hp (by omega)]
    refine zR_eq (nb_if (b := sWhole 4 n (sProd dn) (sProd up)) ?_) ⟨rfl, (zc5.tr k k').le (by omega) (by omega)⟩ zge.rfl
    rw [lN0 (by omega)]
    show decide _ = true ↔ _
    rw [decide_eq_true_iff]
    exact ⟨fun q => q.2, fun q => ⟨h1, q⟩⟩
  · refine zR_f (fun q => h1 ((lN0 (by omega)).mp q)) (zR_r ⟨?_, k.le (by omega) (by omega)⟩)
    rw [show sWhole 4 n (sProd dn) (sProd up) = false from decide_eq_false (fun q => h1 q.1)]; rfl
theorem hl_isEnough_7 (K : Nat) (ζ : pZ) (τ : pH) (x s n p q d db u ub h : Nat) (das uas : List Nat) (dn up : List sR) (hζ : ζ.1 ≤ τ.1) (hK : 1000 ≤ K) (H : zLx ζ τ 7 x s n p q d db u ub h das uas dn up) (hf : sProd dn ≤ 2000000000) : zR τ (fnX10_isEnough K ζ x τ) (fun v t => v = nb (sEnough 2 n (sProd dn) (sProd up)) ∧ zc5 τ t 2) := by
  obtain ⟨fs, ho⟩ := H.2.1.1.o
  have hn := H.2.2.2.2.1
  unfold fnX10_isEnough
  simp only [H.1.ob, dzb, dzc, dzl, fl0, fl1, fl2, fl3, fl4, fl5, fl6, fl7, fi0, fi1, fi2, fi3, fi4, fi5, fi6, fi7, fr0, fr1, fr2, fr3, fr4, fr5, fr6, fr7, fs0, fs1, fs2, fs3, fs4, fs5, fs6, fs7]
  refine zR_b ho (zR_cl (hl_prodD K ζ τ 7 x s n p q d db u ub h das uas dn up hζ H hK) (fun v t g P => ?_))
  obtain ⟨rfl, k⟩ := P
  have H1 := H.k k
  obtain ⟨fs, ho⟩ := H1.2.1.1.o
  simp only [H1.1.ob, dzb, dzc, dzl, fl0, fl1, fl2, fl3, fl4, fl5, fl6, fl7, fi0, fi1, fi2, fi3, fi4, fi5, fi6, fi7, fr0, fr1, fr2, fr3, fr4, fr5, fr6, fr7, fs0, fs1, fs2, fs3, fs4, fs5, fs6, fs7]
  refine zR_b ho (zR_cl (hl_prodD K ζ t 7 x s n p q d db u ub h das uas dn up (Nat.le_trans hζ g.1) H1 hK) (fun v t' _ P => ?_))
  obtain ⟨rfl, k'⟩ := P
  have H2 := H1.k k'
  simp only [H2.1.ob, dzb, dzc, dzl, fl0, fl1, fl2, fl3, fl4, fl5, fl6, fl7, fi0, fi1, fi2, fi3, fi4, fi5, fi6, fi7, fr0, fr1, fr2, fr3, fr4, fr5, fr6, fr7, fs0, fs1, fs2, fs3, fs4, fs5, fs6, fs7]
  have hff : sProd dn * sProd dn ≤ 2000000000 * 2000000000 := Nat.mul_le_mul hf hf
  rw [lN_mul]
  refine zR_eq (nb_if0 (b := sEnough 2 n (sProd dn) (sProd up)) ?_) ⟨rfl, zc5.tr k k'⟩ zge.rfl
  rw [pk_lLE (by omega) (by omega)]
  show decide _ = false ↔ _
  rw [decide_eq_false_iff_not]
  exact Nat.not_lt
theorem hl_isEnough_9 (K : Nat) (ζ : pZ) (τ : pH) (x s n p q d db u ub h : Nat) (das uas : List Nat) (dn up : List sR) (hζ : ζ.1 ≤ τ.1) (hK : 1000 ≤ K) (H : zLx ζ τ 9 x s n p q d db u ub h das uas dn up) (hf : sProd dn ≤ 1000000001) (hg : sProd up ≤ 1000000001) : zR τ (fnX12_isEnough K ζ x τ) (fun v t => v = nb (sEnough 4 n (sProd dn) (sProd up)) ∧ zc5 τ t 2) := by
  obtain ⟨fs, ho⟩ := H.2.1.1.o
  have hn := H.2.2.2.2.1
  unfold fnX12_isEnough
  simp only [H.1.ob, dzb, dzc, dzl, fl0, fl1, fl2, fl3, fl4, fl5, fl6, fl7, fi0, fi1, fi2, fi3, fi4, fi5, fi6, fi7, fr0, fr1, fr2, fr3, fr4, fr5, fr6, fr7, fs0, fs1, fs2, fs3, fs4, fs5, fs6, fs7]
  refine zR_b ho (zR_cl (hl_prodD K ζ τ 9 x s n p q d db u ub h das uas dn up hζ H hK) (fun v t g P => ?_))
  obtain ⟨rfl, k⟩ := P
  have H1 := H.k k
  obtain ⟨fs, ho⟩ := H1.2.1.2.2.1.o
  simp only [H1.1.ob, dzb, dzc, dzl, fl0, fl1, fl2, fl3, fl4, fl5, fl6, fl7, fi0, fi1, fi2, fi3, fi4, fi5, fi6, fi7, fr0, fr1, fr2, fr3, fr4, fr5, fr6, fr7, fs0, fs1, fs2, fs3, fs4, fs5, fs6, fs7]
  refine zR_b ho (zR_cl (hl_prodU K ζ t 9 x s n p q d db u ub h das uas dn up (Nat.le_trans hζ g.1) H1 hK) (fun v t' _ P => ?_))
  obtain ⟨rfl, k'⟩ := P
  have H2 := H1.k k'
  have hp1 := sProd_pos dn H.2.2.1
  have hp2 := sProd_pos up H.2.2.2.1
  generalize sProd dn = f at *
  generalize sProd up = w at *
  rw [hx_common f w (by omega) (by omega), dzb]
  have hgp : 0 < Nat.gcd f w := Nat.gcd_pos_of_pos_left _ hp1
  have hgl : Nat.gcd f w ≤ f := Nat.gcd_le_left _ hp1
  refine zR_t (pz_nz hgp (by omega)) ?_
  have hd1 : f / Nat.gcd f w ≤ f := Nat.div_le_self _ _
  have hd2 : 1 ≤ f / Nat.gcd f w := (Nat.one_le_div_iff hgp).mpr hgl
  rw [pk_lDiv (by omega) hgp (by omega), lN_mul]
  have hm1 : f / Nat.gcd f w * w ≤ 1000000001 * 1000000001 := Nat.mul_le_mul (by omega) hg
  have hm2 : 1 ≤ f / Nat.gcd f w * w := Nat.mul_le_mul hd2 hp2
  show zR t' _ (fun v t => v = nb (!sLit n (f / Nat.gcd f w * w)) ∧ zc5 τ t 2)
  generalize f / Nat.gcd f w * w = m at *
  have kk := zc5.tr k k'
  obtain ⟨k9, rfl⟩ : ∃ j, K = j + 2 := ⟨K - 2, by omega⟩
  have lab : ¬ m * m ≤ n → zR t' ((lfX12_isEnough (k9 + 2) ζ (k9 + 2)).1 x (lN m) t') (fun v t => v = nb (!sLit n m) ∧ zc5 τ t 2) := by
    intro hmm
    rw [luX12_isEnough_1]
    simp only [H2.1.ob, dzb, dzc, dzl, fl0, fl1, fl2, fl3, fl4, fl5, fl6, fl7, fi0, fi1, fi2, fi3, fi4, fi5, fi6, fi7, fr0, fr1, fr2, fr3, fr4, fr5, fr6, fr7, fs0, fs1, fs2, fs3, fs4, fs5, fs6, fs7]
    refine zR_t (pz_nz hm2 (by omega)) ?_
    have hr : n % m ≤ n := Nat.mod_le _ _
    rw [pk_lRem (by omega) hm2 (by omega), luX12_isEnough_2]
    have e0 : sLit n m = !(decide (n % m ≤ 1) || decide (n % m = n) || decide (¬ n % (n % m) = 0)) := by
      unfold sLit; rw [decide_eq_false hmm, Bool.false_or]
    rw [e0, Bool.not_not]
    by_cases h1 : n % m ≤ 1
    · refine zR_t ((pk_lLE (b := 1) (by omega) (by omega)).mpr h1) (zR_r ⟨?_, kk⟩)
      rw [decide_eq_true h1]; rfl
    · refine zR_f (fun q => h1 ((pk_lLE (b := 1) (by omega) (by omega)).mp q)) ?_
      by_cases h2 : n % m = n
      · refine zR_t ((pk_lEQ (by omega) (by omega)).mpr h2) (zR_r ⟨?_, kk⟩)
        rw [decide_eq_true h2, Bool.or_true]; rfl
      · refine zR_f (fun q => h2 ((pk_lEQ (by omega) (by omega)).mp q)) (zR_t (pz_nz (by omega) (by omega)) ?_)
        have hr2 : n % (n % m) ≤ n := Nat.mod_le _ _
        rw [pk_lRem (by omega) (by omega) (by omega)]
        rw [decide_eq_false h1, decide_eq_false h2, Bool.false_or, Bool.false_or]
        by_cases h3 : n % (n % m) = 0
        · exact zR_t ((lN0 (by omega)).mpr h3) (zR_r ⟨by rw [decide_eq_false (fun q => q h3)]; rfl, kk⟩)
        · exact zR_f (fun q => h3 ((lN0 (by omega)).mp q)) (zR_r ⟨by rw [decide_eq_true h3]; rfl, kk⟩)
  by_cases h1 : 1000000000 < m
  · refine zR_t ((pk_lLT (a := 1000000000) (by omega) (by omega)).mpr h1) (lab (fun q => ?_))
    have : m * 1 ≤ m * m := Nat.mul_le_mul_left _ hm2
    omega
  · refine zR_f (fun q => h1 ((pk_lLT (a := 1000000000) (by omega) (by omega)).mp q)) ?_
    have hmm : m * m ≤ 1000000000 * 1000000000 := Nat.mul_le_mul (by omega) (by omega)
    simp only [H2.1.ob, dzb, dzc, dzl, fl0, fl1, fl2, fl3, fl4, fl5, fl6, fl7, fi0, fi1, fi2, fi3, fi4, fi5, fi6, fi7, fr0, fr1, fr2, fr3, fr4, fr5, fr6, fr7, fs0, fs1, fs2, fs3, fs4, fs5, fs6, fs7, lN_mul]
    by_cases h2 : n < m * m
    · exact zR_t ((pk_lLT (by omega) (by omega)).mpr h2) (lab (by omega))
    · refine zR_f (fun q => h2 ((pk_lLT (by omega) (by omega)).mp q)) (zR_r ⟨?_, kk⟩)
      rw [show sLit n m = true by unfold sLit; rw [decide_eq_true (by omega), Bool.true_or]]; rfl
