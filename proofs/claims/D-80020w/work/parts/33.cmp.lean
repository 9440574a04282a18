/-! SPEC: the orders; power, common, bySum, compare -/
theorem sp_iN (n : Nat) : nI n = sp_i n := by
  unfold nI sp_i
  exact (Int32.ofInt_eq_ofNat).symm
theorem sp_iadd (a b : Int) : sp_i a + sp_i b = sp_i (a + b) := (Int32.ofInt_add a b).symm
theorem sp_isub (a b : Int) : sp_i a - sp_i b = sp_i (a - b) := (Int32.ofInt_sub a b).symm
theorem sp_imul (a b : Int) : sp_i a * sp_i b = sp_i (a * b) := (Int32.ofInt_mul a b).symm
theorem sp_ineg (a : Int) : -sp_i a = sp_i (-a) := (Int32.ofInt_neg a).symm
theorem sp_ieq {a b : Int} (ha : a.natAbs < 2147483648) (hb : b.natAbs < 2147483648) : sp_i a = sp_i b ↔ a = b := by
  rw [← Int32.toInt_inj, sp_iI ha, sp_iI hb]
theorem sp_ilt {a b : Int} (ha : a.natAbs < 2147483648) (hb : b.natAbs < 2147483648) : sp_i a < sp_i b ↔ a < b := by
  rw [Int32.lt_iff_toInt_lt, sp_iI ha, sp_iI hb]
theorem sp_ile {a b : Int} (ha : a.natAbs < 2147483648) (hb : b.natAbs < 2147483648) : sp_i a ≤ sp_i b ↔ a ≤ b := by
  rw [Int32.le_iff_toInt_le, sp_iI ha, sp_iI hb]
section
variable {x y : Int32} {A B : Prop}
theorem bi_le {a b : Int} (hx : x = sp_i a) (hy : y = sp_i b) (f : a ≤ b → A) (h : b < a → B) (ha : a.natAbs < 2147483648 := by omega) (hb : b.natAbs < 2147483648 := by omega) : (x ≤ y → A) ∧ (¬ x ≤ y → B) := by
  subst hx hy
  rw [sp_ile ha hb]
  exact ⟨f, fun q => h (by omega)⟩
theorem bi_lt {a b : Int} (hx : x = sp_i a) (hy : y = sp_i b) (f : a < b → A) (h : b ≤ a → B) (ha : a.natAbs < 2147483648 := by omega) (hb : b.natAbs < 2147483648 := by omega) : (x < y → A) ∧ (¬ x < y → B) := by
  subst hx hy
  rw [sp_ilt ha hb]
  exact ⟨f, fun q => h (by omega)⟩
theorem bi_eq {a b : Int} (hx : x = sp_i a) (hy : y = sp_i b) (f : a = b → A) (h : a ≠ b → B) (ha : a.natAbs < 2147483648 := by omega) (hb : b.natAbs < 2147483648 := by omega) : (x = y → A) ∧ (¬ x = y → B) := by
  subst hx hy
  rw [sp_ieq ha hb]
  exact ⟨f, h⟩
theorem bi_ne {a b : Int} (hx : x = sp_i a) (hy : y = sp_i b) (f : a ≠ b → A) (h : a = b → B) (ha : a.natAbs < 2147483648 := by omega) (hb : b.natAbs < 2147483648 := by omega) : (¬ x = y → A) ∧ (x = y → B) := by
  subst hx hy
  rw [sp_ieq ha hb]
  exact ⟨f, h⟩
end
theorem sp_i0 : (0 : Int32) = sp_i 0 := by decide
/-- the sums' difference -/
def sp_sd (a b : sp_M) : Nat → Int
  | 0 => 0
  | n + 1 => sp_sd a b n + (sp_ex a n - sp_ex b n)
def sp_lx (a b : sp_M) : Nat → Int
  | 0 => 0
  | n + 1 => if sp_ex a n = sp_ex b n then sp_lx a b n else sp_ex b n - sp_ex a n
def sp_bs (a b : sp_M) : Int := if sp_sd a b 5 = 0 then sp_lx a b 5 else sp_sd a b 5
def sp_cmp (k : Nat) (a b : sp_M) : Int := if k = 0 then sp_6 a - sp_6 b else if k = 1 then sp_bs a b else if (sp_ex a 0 : Int) - sp_ex b 0 = 0 then sp_bs a b else (sp_ex a 0 : Int) - sp_ex b 0
theorem sp_cmp0 (a b : sp_M) : sp_cmp 0 a b = sp_6 a - sp_6 b := if_pos rfl
theorem sp_cmp1 (a b : sp_M) : sp_cmp 1 a b = sp_bs a b := (if_neg (by decide)).trans (if_pos rfl)
theorem sp_cmp2 (a b : sp_M) : sp_cmp 2 a b = if (sp_ex a 0 : Int) - sp_ex b 0 = 0 then sp_bs a b else (sp_ex a 0 : Int) - sp_ex b 0 := (if_neg (by decide)).trans (if_neg (by decide))
theorem sp_lx_s (a b : sp_M) (n : Nat) : sp_lx a b (n + 1) = if sp_ex a n = sp_ex b n then sp_lx a b n else sp_ex b n - sp_ex a n := rfl
theorem sp_ci (m : sp_M) : sp_c m = sp_i (sp_6 m) := sp_iN _
theorem sp_sd_b {a b : sp_M} (ha : sp_ok a) (hb : sp_ok b) : ∀ n, (sp_sd a b n).natAbs ≤ 30 * n
  | 0 => by simp [sp_sd, sp_lx]
  | n + 1 => by
    have := sp_sd_b ha hb n
    have h1 := sp_ok_ex ha n
    have h2 := sp_ok_ex hb n
    unfold sp_sd
    omega
theorem sp_lx_b {a b : sp_M} (ha : sp_ok a) (hb : sp_ok b) : ∀ n, (sp_lx a b n).natAbs ≤ 30
  | 0 => by simp [sp_sd, sp_lx]
  | n + 1 => by
    have := sp_lx_b ha hb n
    have h1 := sp_ok_ex ha n
    have h2 := sp_ok_ex hb n
    unfold sp_lx
    split <;> omega
theorem sp_bs_b {a b : sp_M} (ha : sp_ok a) (hb : sp_ok b) : (sp_bs a b).natAbs ≤ 150 := by
  have := sp_sd_b ha hb 5
  have := sp_lx_b ha hb 5
  unfold sp_bs
  split <;> omega
theorem sp_cmp_b {a b : sp_M} (ha : sp_ok a) (hb : sp_ok b) (k : Nat) : (sp_cmp k a b).natAbs < 2147483648 := by
  have h1 := sp_6_lt ha
  have h2 := sp_6_lt hb
  have h3 := sp_bs_b ha hb
  have h4 := sp_ok_ex ha 0
  have h5 := sp_ok_ex hb 0
  unfold sp_cmp
  split
  · omega
  · split
    · omega
    · split <;> omega
section
variable {g : jm_G} {d : Nat} {σ : jm_S}
theorem c_bySum {a b : sp_M} (ha : sp_ok a) (hb : sp_ok b) : J g (d + 1) 13 0 [some (aI (sp_c a)), some (aI (sp_c b)), none, none] [] σ (jR σ (aI (sp_i (sp_bs a b)))) := by
  have l2 : ∀ n : Nat, n ≤ 5 → ∀ x s, x = sp_i ((n : Int) - 1) → sp_bs a b = sp_lx a b n → J g (d + 1) 13 37 [some (aI (sp_c a)), some (aI (sp_c b)), some (aI s), some (aI x)] [] σ (jR σ (aI (sp_i (sp_bs a b)))) := by
    intro n
    induction n with
    | zero =>
      intro _ x s hx he
      refine jm_run ok_O_bySum [37] 90 (fun kk hk => ?_)
      conv => whnf
      refine bi_lt hx sp_i0 (fun _ => ?_) (fun h => by omega)
      conv => whnf
      exact hk _ _ _ _ (r_O_bySum_73 (by rw [he]; rfl))
    | succ n ih =>
      intro hn x s hx he
      have hx' : x = nI n := by rw [hx, sp_iN]; congr 1; omega
      subst hx'
      have hxa := sp_ok_ex ha n
      have hxb := sp_ok_ex hb n
      refine jm_run ok_O_bySum [37] 90 (fun kk hk => ?_)
      conv => whnf
      refine bi_lt hx sp_i0 (fun h => by omega) (fun _ => ?_)
      conv => whnf
      refine hk _ _ _ _ (k_O_bySum_43 rfl (c_exponent ha (by omega)) (fun u hu => ?_))
      subst hu
      refine jm_run ok_O_bySum [37] 90 (fun kk hk => ?_)
      conv => whnf
      refine hk _ _ _ _ (k_O_bySum_48 rfl (c_exponent hb (by omega)) (fun u hu => ?_))
      subst hu
      refine jm_run ok_O_bySum [37] 90 (fun kk hk => ?_)
      conv => whnf
      refine b_eq rfl rfl (fun h => ?_) (fun h => ?_)
      · conv => whnf
        exact hk _ _ _ _ (ih (by omega) _ _ (by rw [sp_iN, show (-1 : Int32) = sp_i (-1) from by decide, sp_iadd]; congr 1) (by rw [he, sp_lx_s, if_pos h]))
      · conv => whnf
        refine hk _ _ _ _ (k_O_bySum_56 rfl (c_exponent hb (by omega)) (fun u hu => ?_))
        subst hu
        refine jm_run ok_O_bySum [37] 90 (fun kk hk => ?_)
        conv => whnf
        refine hk _ _ _ _ (k_O_bySum_61 rfl (c_exponent ha (by omega)) (fun u hu => ?_))
        subst hu
        refine jm_run ok_O_bySum [37] 90 (fun kk hk => ?_)
        conv => whnf
        refine hk _ _ _ _ (r_O_bySum_65 ?_)
        rw [he, sp_lx_s, if_neg h, sp_iN, sp_iN, sp_isub]; exact rfl
  have l1 : ∀ m n, n + m = 5 → J g (d + 1) 13 4 [some (aI (sp_c a)), some (aI (sp_c b)), some (aI (sp_i (sp_sd a b n))), some (aI (nI n))] [] σ (jR σ (aI (sp_i (sp_bs a b)))) := by
    intro m
    induction m with
    | zero =>
      intro n hn
      have : n = 5 := by omega
      subst this
      have h5 := sp_sd_b ha hb 5
      refine jm_run ok_O_bySum [4, 37] 90 (fun kk hk => ?_)
      conv => whnf
      refine b_le (a := 5) (b := 5) rfl rfl (fun _ => ?_) (fun h => by omega)
      conv => whnf
      refine bi_eq rfl sp_i0 (fun h => ?_) (fun h => ?_)
      · conv => whnf
        exact hk _ _ _ _ (l2 5 (by decide) _ _ (by decide) (by unfold sp_bs; rw [if_pos h]))
      · conv => whnf
        exact hk _ _ _ _ (r_O_bySum_34 (by unfold sp_bs; rw [if_neg h]; rfl))
    | succ m ih =>
      intro n hn
      refine jm_run ok_O_bySum [4, 37] 90 (fun kk hk => ?_)
      conv => whnf
      refine b_le (a := 5) rfl rfl (fun h => by omega) (fun _ => ?_)
      conv => whnf
      refine hk _ _ _ _ (k_O_bySum_12 rfl (c_exponent ha (by omega)) (fun u hu => ?_))
      subst hu
      refine jm_run ok_O_bySum [4, 37] 90 (fun kk hk => ?_)
      conv => whnf
      refine hk _ _ _ _ (k_O_bySum_17 rfl (c_exponent hb (by omega)) (fun u hu => ?_))
      subst hu
      refine jm_run ok_O_bySum [4, 37] 90 (fun kk hk => ?_)
      conv => whnf
      rw [nI_1, sp_iN (sp_ex a n), sp_iN (sp_ex b n), sp_isub, sp_iadd]
      exact hk _ _ _ _ (ih (n + 1) (by omega))
  refine jm_run ok_O_bySum [4, 37] 90 (fun kk hk => ?_)
  conv => whnf
  exact hk _ _ _ _ (l1 5 0 rfl)
theorem c_cmp1 {a b : sp_M} {q : Nat} (ha : sp_ok a) (hb : sp_ok b) : J g d 11 0 [some (aR 13 q), some (aI (sp_c a)), some (aI (sp_c b))] [] σ (jR σ (aI (sp_i (sp_cmp 0 a b)))) := by
  refine jm_run ok_O1_compare [] 90 (fun kk hk => ?_)
  conv => whnf
  refine hk _ _ _ _ (r_O1_compare_3 ?_)
  rw [sp_ci, sp_ci, sp_isub, sp_cmp0]
  exact rfl
theorem c_cmp2 {a b : sp_M} {q : Nat} (ha : sp_ok a) (hb : sp_ok b) : J g (d + 2) 12 0 [some (aR 13 q), some (aI (sp_c a)), some (aI (sp_c b))] [] σ (jR σ (aI (sp_i (sp_cmp 1 a b)))) := by
  refine jm_run ok_O2_compare [] 90 (fun kk hk => ?_)
  conv => whnf
  refine hk _ _ _ _ (k_O2_compare_2 rfl (c_bySum ha hb) (fun u hu => ?_))
  subst hu
  rw [sp_cmp1]
  exact r_O2_compare_5 rfl
theorem c_cmp3 {a b : sp_M} {q : Nat} (ha : sp_ok a) (hb : sp_ok b) : J g (d + 2) 15 0 [some (aR 13 q), some (aI (sp_c a)), some (aI (sp_c b)), none] [] σ (jR σ (aI (sp_i (sp_cmp 2 a b)))) := by
  have h4 := sp_ok_ex ha 0
  have h5 := sp_ok_ex hb 0
  refine jm_run ok_O3_compare [] 90 (fun kk hk => ?_)
  conv => whnf
  refine hk _ _ _ _ (k_O3_compare_2 rfl (c_exponent (v := 0) ha (by omega)) (fun u hu => ?_))
  subst hu
  refine jm_run ok_O3_compare [] 90 (fun kk hk => ?_)
  conv => whnf
  refine hk _ _ _ _ (k_O3_compare_7 rfl (c_exponent (v := 0) hb (by omega)) (fun u hu => ?_))
  subst hu
  refine jm_run ok_O3_compare [] 90 (fun kk hk => ?_)
  conv => whnf
  rw [sp_iN, sp_iN, sp_isub]
  refine bi_eq rfl sp_i0 (fun h => ?_) (fun h => ?_)
  · conv => whnf
    refine hk _ _ _ _ (k_O3_compare_22 rfl (c_bySum ha hb) (fun u hu => ?_))
    subst hu
    refine r_O3_compare_25 ?_
    rw [sp_cmp2, if_pos h]
    exact rfl
  · conv => whnf
    refine hk _ _ _ _ (r_O3_compare_25 ?_)
    rw [sp_cmp2, if_neg h]
    exact rfl
/-- a call of compare at a place of come -/
theorem kc_come {L : List (Option jm_V)} {r : List jm_V} {K : jm_O → Prop} {j : Nat} {a b : sp_M} (hj : j < 3) (ha : sp_ok a) (hb : sp_ok b) (hr : Nat.ble (jm_cs r) 8 = true) (h : J g (d + 3) 23 25 L (aI (sp_i (sp_cmp j a b)) :: r) σ K) : J g (d + 3) 23 22 L (aI (sp_c b) :: aI (sp_c a) :: aR 13 (goa g j) :: r) σ K := by
  have : j = 0 ∨ j = 1 ∨ j = 2 := by omega
  rcases this with rfl | rfl | rfl
  · exact k_P_come_22_1 rfl hr (c_cmp1 ha hb) (fun u hu => by subst hu; exact h)
  · exact k_P_come_22_2 rfl hr (c_cmp2 ha hb) (fun u hu => by subst hu; exact h)
  · exact k_P_come_22_3 rfl hr (c_cmp3 ha hb) (fun u hu => by subst hu; exact h)
theorem kc_sort {L : List (Option jm_V)} {r : List jm_V} {K : jm_O → Prop} {j : Nat} {a b : sp_M} (hj : j < 3) (ha : sp_ok a) (hb : sp_ok b) (hr : Nat.ble (jm_cs r) 8 = true) (h : J g (d + 3) 10 56 L (aI (sp_i (sp_cmp j a b)) :: r) σ K) : J g (d + 3) 10 53 L (aI (sp_c b) :: aI (sp_c a) :: aR 13 (goa g j) :: r) σ K := by
  have : j = 0 ∨ j = 1 ∨ j = 2 := by omega
  rcases this with rfl | rfl | rfl
  · exact k_P_sort_53_1 rfl hr (c_cmp1 ha hb) (fun u hu => by subst hu; exact h)
  · exact k_P_sort_53_2 rfl hr (c_cmp2 ha hb) (fun u hu => by subst hu; exact h)
  · exact k_P_sort_53_3 rfl hr (c_cmp3 ha hb) (fun u hu => by subst hu; exact h)
end
