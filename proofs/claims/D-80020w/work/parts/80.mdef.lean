/-! THE MODEL: monomials of five bits, its layout, compare -/
def sp_5 (m : sp_M) : Nat := m.1 + m.2.1 * 32 + m.2.2.1 * 1024 + m.2.2.2.1 * 32768 + m.2.2.2.2 * 1048576
def sp_d (m : sp_M) : Int32 := nI (sp_5 m)
theorem sp_5_lt {m : sp_M} (h : sp_ok m) : sp_5 m < 33554432 := by
  obtain ⟨h0, h1, h2, h3, h4⟩ := h
  unfold sp_5; omega
theorem sp_5_ex {m : sp_M} (h : sp_ok m) : ∀ v, v < 5 → sp_5 m / 2 ^ (5 * v) % 32 = sp_ex m v := by
  obtain ⟨h0, h1, h2, h3, h4⟩ := h
  intro v hv
  rcases lt5 hv with e | e | e | e | e <;> subst e
  · show (m.1 + m.2.1 * 32 + m.2.2.1 * 1024 + m.2.2.2.1 * 32768 + m.2.2.2.2 * 1048576) / 2 ^ 0 % 32 = m.1
    omega
  · show (m.1 + m.2.1 * 32 + m.2.2.1 * 1024 + m.2.2.2.1 * 32768 + m.2.2.2.2 * 1048576) / 2 ^ 5 % 32 = m.2.1
    omega
  · show (m.1 + m.2.1 * 32 + m.2.2.1 * 1024 + m.2.2.2.1 * 32768 + m.2.2.2.2 * 1048576) / 2 ^ 10 % 32 = m.2.2.1
    omega
  · show (m.1 + m.2.1 * 32 + m.2.2.1 * 1024 + m.2.2.2.1 * 32768 + m.2.2.2.2 * 1048576) / 2 ^ 15 % 32 = m.2.2.2.1
    omega
  · show (m.1 + m.2.1 * 32 + m.2.2.1 * 1024 + m.2.2.2.1 * 32768 + m.2.2.2.2 * 1048576) / 2 ^ 20 % 32 = m.2.2.2.2
    omega
theorem sp_dex {m : sp_M} (h : sp_ok m) {v : Nat} (hv : v < 5) : (sp_d m >>> ((5 * nI v) &&& 31)) &&& 31 = nI (sp_ex m v) := by
  have hl := sp_5_lt h
  have h5 := sp_5_ex h v hv
  unfold sp_d
  rcases lt5 hv with e | e | e | e | e <;> subst e
  · rw [pk_shrN (by omega) _ 0 (by decide), pk_andN (by omega) 5 (by decide)]; exact congrArg nI h5
  · rw [pk_shrN (by omega) _ 5 (by decide), pk_andN (by omega) 5 (by decide)]; exact congrArg nI h5
  · rw [pk_shrN (by omega) _ 10 (by decide), pk_andN (by omega) 5 (by decide)]; exact congrArg nI h5
  · rw [pk_shrN (by omega) _ 15 (by decide), pk_andN (by omega) 5 (by decide)]; exact congrArg nI h5
  · rw [pk_shrN (by omega) _ 20 (by decide), pk_andN (by omega) 5 (by decide)]; exact congrArg nI h5
theorem sp_5_inj {a b : sp_M} (ha : sp_ok a) (hb : sp_ok b) (h : sp_5 a = sp_5 b) : a = b :=
  sp_M_ext (fun i hi => by rw [← sp_5_ex ha i hi, ← sp_5_ex hb i hi, h])
theorem sp_mm_d (a b : sp_M) : sp_d a + sp_d b = sp_d (sp_mm a b) := by
  unfold sp_d
  rw [nI_add]
  exact congrArg nI (by unfold sp_5 sp_mm; dsimp only; omega)
theorem sp_sb_d {a b : sp_M} (h : sp_dv b a = true) : sp_d a - sp_d b = sp_d (sp_sb a b) := by
  have h := sp_dv_iff.mp h
  unfold sp_d
  rw [pk_sub (by unfold sp_5; omega)]
  exact congrArg nI (by unfold sp_5 sp_sb; dsimp only; omega)
/-- the sign of a number -/
def sgn (x : Int) : Int32 := if 0 < x then 1 else if x < 0 then -1 else 0
theorem sgn_p {x : Int} (h : 0 < x) : sgn x = 1 := if_pos h
theorem sgn_n {x : Int} (h : x < 0) : sgn x = -1 := by unfold sgn; rw [if_neg (by omega), if_pos h]
theorem sgn_0 {x : Int} (h : x = 0) : sgn x = 0 := by unfold sgn; rw [if_neg (by omega), if_neg (by omega)]
theorem sg_le {x : Int} {A B : Prop} (f : x ≤ 0 → A) (h : 0 < x → B) : (sgn x ≤ 0 → A) ∧ (¬ sgn x ≤ 0 → B) := by
  rcases Int.lt_trichotomy x 0 with q | q | q
  · rw [sgn_n q]; exact ⟨fun _ => f (by omega), fun r => absurd (by decide) r⟩
  · rw [sgn_0 q]; exact ⟨fun _ => f (by omega), fun r => absurd (by decide) r⟩
  · rw [sgn_p q]; exact ⟨fun r => absurd r (by decide), fun _ => h q⟩
theorem sg_ge {x : Int} {A B : Prop} (f : 0 ≤ x → A) (h : x < 0 → B) : (0 ≤ sgn x → A) ∧ (¬ 0 ≤ sgn x → B) := by
  rcases Int.lt_trichotomy x 0 with q | q | q
  · rw [sgn_n q]; exact ⟨fun r => absurd r (by decide), fun _ => h q⟩
  · rw [sgn_0 q]; exact ⟨fun _ => f (by omega), fun r => absurd (by decide) r⟩
  · rw [sgn_p q]; exact ⟨fun _ => f (by omega), fun r => absurd (by decide) r⟩
/-- the model's references -/
def ML (g : jm_G) (σ : jm_S) (m : Nat) : Prop :=
  (σ.2.1 m 3 = m + 1 + 1 ∧ σ.2.1 m 4 = m + 2 + 1 ∧ σ.2.1 m 5 = m + 3 + 1 ∧ σ.2.1 m 6 = m + 4 + 1 ∧ σ.2.1 m 15 = m + 5 + 1 ∧ σ.2.1 m 18 = m + 6 + 1 ∧ σ.2.1 m 23 = m + 7 + 1 ∧ σ.2.1 m 27 = m + 8 + 1) ∧
  gln g (m + 1) = 37200 ∧ gln g (m + 2) = 37200 ∧ gln g (m + 3) = 37200 ∧ gln g (m + 4) = 372 ∧ gln g (m + 5) = 4 ∧ gln g (m + 6) = 4 ∧ gln g (m + 7) = 625 ∧ gln g (m + 8) = 25
/-- the sum of the exponents of the first n -/
def sm (m : sp_M) : Nat → Nat
  | 0 => 0
  | n + 1 => sm m n + sp_ex m n
theorem sm_le {m : sp_M} (h : sp_ok m) : ∀ n, sm m n ≤ 30 * n
  | 0 => Nat.le_refl _
  | n + 1 => by
    have := sm_le h n
    have := sp_ok_ex h n
    unfold sm
    omega
theorem sm_HV {m : sp_M} {n : Nat} (h : HV n m) (hn : n ≤ 5) : sm m n = sm m 5 := by
  have key : ∀ k, n + k ≤ 5 → sm m (n + k) = sm m n := by
    intro k
    induction k with
    | zero => intro _; rfl
    | succ k ih =>
      intro hk
      have : sm m (n + (k + 1)) = sm m (n + k) + sp_ex m (n + k) := rfl
      rw [this, ih (by omega), h (n + k) (by omega) (by omega), Nat.add_zero]
  have := key (5 - n) (by omega)
  rw [show n + (5 - n) = 5 by omega] at this
  exact this.symm
theorem sd_sm (a b : sp_M) : ∀ n, sp_sd a b n = (sm a n : Int) - sm b n
  | 0 => rfl
  | n + 1 => by
    have := sd_sm a b n
    unfold sp_sd sm
    rw [this]
    omega
theorem lex_6 {a b : sp_M} (ha : sp_ok a) (hb : sp_ok b) {v : Nat} (hv : v < 5) (he : ∀ u, u < v → sp_ex a u = sp_ex b u) (h : sp_ex a v < sp_ex b v) : sp_6 a < sp_6 b := by
  obtain ⟨a0, a1, a2, a3, a4⟩ := ha
  obtain ⟨b0, b1, b2, b3, b4⟩ := hb
  unfold sp_6
  rcases lt5 hv with e | e | e | e | e <;> subst e
  · have h : a.1 < b.1 := h
    omega
  · have h : a.2.1 < b.2.1 := h
    have h0 : a.1 = b.1 := he 0 (by decide)
    omega
  · have h : a.2.2.1 < b.2.2.1 := h
    have h0 : a.1 = b.1 := he 0 (by decide)
    have h1 : a.2.1 = b.2.1 := he 1 (by decide)
    omega
  · have h : a.2.2.2.1 < b.2.2.2.1 := h
    have h0 : a.1 = b.1 := he 0 (by decide)
    have h1 : a.2.1 = b.2.1 := he 1 (by decide)
    have h2 : a.2.2.1 = b.2.2.1 := he 2 (by decide)
    omega
  · have h : a.2.2.2.2 < b.2.2.2.2 := h
    have h0 : a.1 = b.1 := he 0 (by decide)
    have h1 : a.2.1 = b.2.1 := he 1 (by decide)
    have h2 : a.2.2.1 = b.2.2.1 := he 2 (by decide)
    have h3 : a.2.2.2.1 = b.2.2.2.1 := he 3 (by decide)
    omega
theorem lx_top {a b : sp_M} : ∀ {k n : Nat}, (∀ u, n ≤ u → u < n + k → sp_ex a u = sp_ex b u) → sp_lx a b (n + k) = sp_lx a b n
  | 0, n, _ => rfl
  | k + 1, n, h => by
    rw [show n + (k + 1) = (n + k) + 1 from rfl, sp_lx_s, if_pos (h (n + k) (by omega) (by omega))]
    exact lx_top (fun u h1 h2 => h u h1 (by omega))
section
variable {g : jm_G} {d : Nat} {σ : jm_S} {m : Nat}
theorem c_mexp {a : sp_M} (ha : sp_ok a) {v : Nat} (hv : v < 5) : J g d 80 0 [some (aI (sp_d a)), some (aI (nI v))] [] σ (jR σ (aI (nI (sp_ex a v)))) := by
  refine jm_run ok_M_exponent [] 90 (fun kk hk => ?_)
  conv => whnf
  rw [sp_dex ha hv]
  exact hk _ _ _ _ (r_M_exponent_8 rfl)
theorem c_msum {a : sp_M} {n : Nat} (ha : sp_ok a) (h1 : σ.1 m 1 = nI n) (hn : n ≤ 5) : J g (d + 1) 81 0 [some (aR 6 m), some (aI (sp_d a)), none, none] [] σ (jR σ (aI (nI (sm a n)))) := by
  have loop : ∀ k v, v + k = n → J g (d + 1) 81 4 [some (aR 6 m), some (aI (sp_d a)), some (aI (nI (sm a v))), some (aI (nI v))] [] σ (jR σ (aI (nI (sm a n)))) := by
    intro k
    induction k with
    | zero =>
      intro v hv
      obtain rfl : v = n := by omega
      refine jm_run ok_M_sum [4] 90 (fun kk hk => ?_)
      conv => whnf
      refine b_le h1 rfl (fun _ => ?_) (fun h => by omega)
      conv => whnf
      exact hk _ _ _ _ (r_M_sum_27 rfl)
    | succ k ih =>
      intro v hv
      refine jm_run ok_M_sum [4] 90 (fun kk hk => ?_)
      conv => whnf
      refine b_le h1 rfl (fun h => by omega) (fun _ => ?_)
      conv => whnf
      refine hk _ _ _ _ (k_M_sum_15 rfl (c_mexp ha (by omega)) (fun u hu => ?_))
      subst hu
      show J g (d + 1) 81 18 _ _ σ _
      refine jm_run ok_M_sum [4] 90 (fun kk hk => ?_)
      conv => whnf
      rw [nI_add, nI_1]
      exact hk _ _ _ _ (ih (v + 1) (by omega))
  refine jm_run ok_M_sum [4] 90 (fun kk hk => ?_)
  conv => whnf
  exact hk _ _ _ _ (loop n 0 (by omega))
/-- what compare asks of the model -/
def MC (f : Nat → Nat → Int32) (m n j : Nat) : Prop := f m 1 = nI n ∧ f m 2 = nI j ∧ n ≤ 5 ∧ j < 3
theorem c_mcmp {a b : sp_M} {n j : Nat} (ha : sp_ok a) (hb : sp_ok b) (va : HV n a) (vb : HV n b) (hM : MC σ.1 m n j) : J g (d + 2) 79 0 [some (aR 6 m), some (aI (sp_d a)), some (aI (sp_d b)), none] [] σ (jR σ (aI (sgn (sp_cmp j a b)))) := by
  obtain ⟨h1, h2, hn, hj⟩ := hM
  have exA : ∀ v, v < 5 → sp_ex a v ≤ 30 := fun v _ => sp_ok_ex ha v
  have exB : ∀ v, v < 5 → sp_ex b v ≤ 30 := fun v _ => sp_ok_ex hb v
  have k0 : j = 0 → ∀ k v, v + k = n → (∀ u, u < v → sp_ex a u = sp_ex b u) → J g (d + 2) 79 9 [some (aR 6 m), some (aI (sp_d a)), some (aI (sp_d b)), some (aI (nI v))] [] σ (jR σ (aI (sgn (sp_cmp j a b)))) := by
    intro hj0 k
    subst hj0
    induction k with
    | zero =>
      intro v hv he
      obtain rfl : v = n := by omega
      have hab : a = b := sp_M_ext (fun i hi => by
        by_cases q : i < v
        · exact he i q
        · rw [va i (by omega) hi, vb i (by omega) hi])
      subst hab
      rw [sp_cmp0, Int.sub_self]
      refine jm_run ok_M_compare [9] 90 (fun kk hk => ?_)
      conv => whnf
      refine b_le h1 rfl (fun _ => ?_) (fun h => by omega)
      conv => whnf
      exact hk _ _ _ _ (r_M_compare_56 rfl)
    | succ k ih =>
      intro v hv he
      have ea := exA v (by omega)
      have eb := exB v (by omega)
      refine jm_run ok_M_compare [9] 90 (fun kk hk => ?_)
      conv => whnf
      refine b_le h1 rfl (fun h => by omega) (fun _ => ?_)
      conv => whnf
      refine hk _ _ _ _ (k_M_compare_19 rfl (c_mexp ha (by omega)) (fun u hu => ?_))
      subst hu
      show J g (d + 2) 79 22 _ _ σ _
      refine jm_run ok_M_compare [9] 90 (fun kk hk => ?_)
      conv => whnf
      refine hk _ _ _ _ (k_M_compare_24 rfl (c_mexp hb (by omega)) (fun u hu => ?_))
      subst hu
      show J g (d + 2) 79 27 _ _ σ _
      refine jm_run ok_M_compare [9] 90 (fun kk hk => ?_)
      conv => whnf
      refine b_eq (a := sp_ex a v) (b := sp_ex b v) rfl rfl (fun heq => ?_) (fun hne => ?_)
      · conv => whnf
        rw [nI_1]
        refine hk _ _ _ _ (ih (v + 1) (by omega) (fun u hu => ?_))
        by_cases q : u = v
        · subst q; exact heq
        · exact he u (by omega)
      · conv => whnf
        refine hk _ _ _ _ (k_M_compare_32 rfl (c_mexp ha (by omega)) (fun u hu => ?_))
        subst hu
        show J g (d + 2) 79 35 _ _ σ _
        rcases Nat.lt_or_gt_of_ne hne with q | q
        · have hc : sp_cmp 0 a b < 0 := by rw [sp_cmp0]; have := lex_6 ha hb (by omega) he q; omega
          rw [sgn_n hc]
          refine jm_run ok_M_compare [9] 90 (fun kk hk => ?_)
          conv => whnf
          refine hk _ _ _ _ (k_M_compare_37 rfl (c_mexp hb (by omega)) (fun u hu => ?_))
          subst hu
          show J g (d + 2) 79 40 _ _ σ _
          refine jm_run ok_M_compare [9] 90 (fun kk hk => ?_)
          conv => whnf
          refine b_le (a := sp_ex b v) (b := sp_ex a v) rfl rfl (fun h => by omega) (fun _ => ?_)
          conv => whnf
          exact hk _ _ _ _ (r_M_compare_48 rfl)
        · have hc : 0 < sp_cmp 0 a b := by rw [sp_cmp0]; have := lex_6 hb ha (by omega) (fun u hu => (he u hu).symm) q; omega
          rw [sgn_p hc]
          refine jm_run ok_M_compare [9] 90 (fun kk hk => ?_)
          conv => whnf
          refine hk _ _ _ _ (k_M_compare_37 rfl (c_mexp hb (by omega)) (fun u hu => ?_))
          subst hu
          show J g (d + 2) 79 40 _ _ σ _
          refine jm_run ok_M_compare [9] 90 (fun kk hk => ?_)
          conv => whnf
          refine b_le (a := sp_ex b v) (b := sp_ex a v) rfl rfl (fun _ => ?_) (fun h => by omega)
          conv => whnf
          exact hk _ _ _ _ (r_M_compare_48 rfl)
  have kl : ∀ k, k ≤ n → (∀ u, k ≤ u → u < 5 → sp_ex a u = sp_ex b u) → ∀ y : Int32, y = sp_i ((k : Int) - 1) → J g (d + 2) 79 136 [some (aR 6 m), some (aI (sp_d a)), some (aI (sp_d b)), some (aI y)] [] σ (jR σ (aI (sgn (sp_lx a b k)))) := by
    intro k
    induction k with
    | zero =>
      intro _ _ y hy
      subst hy
      refine jm_run ok_M_compare [136] 90 (fun kk hk => ?_)
      conv => whnf
      rw [sp_i0]
      refine bi_lt (a := -1) (b := 0) rfl rfl (fun _ => ?_) (fun h => by omega)
      conv => whnf
      exact hk _ _ _ _ (r_M_compare_179 rfl)
    | succ k ih =>
      intro hkn he y hy
      have ea := exA k (by omega)
      have eb := exB k (by omega)
      have hy : y = nI k := by rw [hy, sp_iN]; congr 1; omega
      subst hy
      rw [sp_lx_s]
      refine jm_run ok_M_compare [136] 90 (fun kk hk => ?_)
      conv => whnf
      refine b_lt (a := k) (b := 0) rfl rfl (fun h => by omega) (fun _ => ?_)
      conv => whnf
      refine hk _ _ _ _ (k_M_compare_142 rfl (c_mexp ha (by omega)) (fun u hu => ?_))
      subst hu
      show J g (d + 2) 79 145 _ _ σ _
      refine jm_run ok_M_compare [136] 90 (fun kk hk => ?_)
      conv => whnf
      refine hk _ _ _ _ (k_M_compare_147 rfl (c_mexp hb (by omega)) (fun u hu => ?_))
      subst hu
      show J g (d + 2) 79 150 _ _ σ _
      by_cases heq : sp_ex a k = sp_ex b k
      · rw [if_pos heq]
        refine jm_run ok_M_compare [136] 90 (fun kk hk => ?_)
        conv => whnf
        refine b_eq (a := sp_ex a k) (b := sp_ex b k) rfl rfl (fun _ => ?_) (fun h => absurd heq h)
        conv => whnf
        refine hk _ _ _ _ (ih (by omega) (fun u h3 h4 => ?_) _ ?_)
        · by_cases q : u = k
          · subst q; exact heq
          · exact he u (by omega) h4
        · rw [sp_iN, show (-1 : Int32) = sp_i (-1) from by decide, sp_iadd]; rfl
      · rw [if_neg heq]
        refine jm_run ok_M_compare [136] 90 (fun kk hk => ?_)
        conv => whnf
        refine b_eq (a := sp_ex a k) (b := sp_ex b k) rfl rfl (fun h => absurd h heq) (fun _ => ?_)
        conv => whnf
        refine hk _ _ _ _ (k_M_compare_155 rfl (c_mexp ha (by omega)) (fun u hu => ?_))
        subst hu
        show J g (d + 2) 79 158 _ _ σ _
        refine jm_run ok_M_compare [136] 90 (fun kk hk => ?_)
        conv => whnf
        refine hk _ _ _ _ (k_M_compare_160 rfl (c_mexp hb (by omega)) (fun u hu => ?_))
        subst hu
        show J g (d + 2) 79 163 _ _ σ _
        rcases Nat.lt_or_gt_of_ne heq with q | q
        · rw [sgn_p (by omega)]
          refine jm_run ok_M_compare [136] 90 (fun kk hk => ?_)
          conv => whnf
          refine b_le (a := sp_ex a k) (b := sp_ex b k) rfl rfl (fun _ => ?_) (fun h => by omega)
          conv => whnf
          exact hk _ _ _ _ (r_M_compare_171 rfl)
        · rw [sgn_n (by omega)]
          refine jm_run ok_M_compare [136] 90 (fun kk hk => ?_)
          conv => whnf
          refine b_le (a := sp_ex a k) (b := sp_ex b k) rfl rfl (fun h => by omega) (fun _ => ?_)
          conv => whnf
          exact hk _ _ _ _ (r_M_compare_171 rfl)
  have ks : ∀ z3 : Option jm_V, J g (d + 2) 79 97 [some (aR 6 m), some (aI (sp_d a)), some (aI (sp_d b)), z3] [] σ (jR σ (aI (sgn (sp_bs a b)))) := by
    intro z3
    have hsa := sm_HV va hn
    have hsb := sm_HV vb hn
    have la := sm_le ha n
    have lb := sm_le hb n
    have hsd := sd_sm a b 5
    rw [← hsa, ← hsb] at hsd
    refine jm_run ok_M_compare [] 90 (fun kk hk => ?_)
    conv => whnf
    refine hk _ _ _ _ (k_M_compare_99 rfl (c_msum ha h1 hn) (fun u hu => ?_))
    subst hu
    show J g (d + 2) 79 102 _ _ σ _
    refine jm_run ok_M_compare [] 90 (fun kk hk => ?_)
    conv => whnf
    refine hk _ _ _ _ (k_M_compare_104 rfl (c_msum hb h1 hn) (fun u hu => ?_))
    subst hu
    show J g (d + 2) 79 107 _ _ σ _
    by_cases heq : sm a n = sm b n
    · have hbs : sp_bs a b = sp_lx a b n := by
        unfold sp_bs
        rw [if_pos (by omega)]
        have := lx_top (a := a) (b := b) (n := n) (k := 5 - n) (fun u h3 h4 => by rw [va u h3 (by omega), vb u h3 (by omega)])
        rw [show n + (5 - n) = 5 by omega] at this
        exact this
      rw [hbs]
      refine jm_run ok_M_compare [136] 90 (fun kk hk => ?_)
      conv => whnf
      refine b_eq (a := sm a n) (b := sm b n) rfl rfl (fun _ => ?_) (fun h => absurd heq h)
      conv => whnf
      refine hk _ _ _ _ (kl n (Nat.le_refl _) (fun u h3 h4 => by rw [va u h3 h4, vb u h3 h4]) _ ?_)
      rw [h1, sp_iN, show (1 : Int32) = sp_i 1 from by decide, sp_isub]
    · have hbs : sp_bs a b = (sm a n : Int) - sm b n := by
        unfold sp_bs
        rw [if_neg (by omega), hsd]
      rw [hbs]
      refine jm_run ok_M_compare [] 90 (fun kk hk => ?_)
      conv => whnf
      refine b_eq (a := sm a n) (b := sm b n) rfl rfl (fun h => absurd h heq) (fun _ => ?_)
      conv => whnf
      refine hk _ _ _ _ (k_M_compare_112 rfl (c_msum ha h1 hn) (fun u hu => ?_))
      subst hu
      show J g (d + 2) 79 115 _ _ σ _
      refine jm_run ok_M_compare [] 90 (fun kk hk => ?_)
      conv => whnf
      refine hk _ _ _ _ (k_M_compare_117 rfl (c_msum hb h1 hn) (fun u hu => ?_))
      subst hu
      show J g (d + 2) 79 120 _ _ σ _
      rcases Nat.lt_or_gt_of_ne heq with q | q
      · rw [sgn_n (by omega)]
        refine jm_run ok_M_compare [] 90 (fun kk hk => ?_)
        conv => whnf
        refine b_le (a := sm b n) (b := sm a n) rfl rfl (fun h => by omega) (fun _ => ?_)
        conv => whnf
        exact hk _ _ _ _ (r_M_compare_128 rfl)
      · rw [sgn_p (by omega)]
        refine jm_run ok_M_compare [] 90 (fun kk hk => ?_)
        conv => whnf
        refine b_le (a := sm b n) (b := sm a n) rfl rfl (fun _ => ?_) (fun h => by omega)
        conv => whnf
        exact hk _ _ _ _ (r_M_compare_128 rfl)
  have hj3 : j = 0 ∨ j = 1 ∨ j = 2 := by omega
  rcases hj3 with e | e | e
  · subst e
    refine jm_run ok_M_compare [9] 90 (fun kk hk => ?_)
    conv => whnf
    refine b_ne h2 (b := 0) rfl (fun q => absurd rfl q) (fun _ => ?_)
    conv => whnf
    exact hk _ _ _ _ (k0 rfl n 0 (by omega) (fun u hu => absurd hu (Nat.not_lt_zero _)))
  · subst e
    rw [sp_cmp1]
    refine jm_run ok_M_compare [97] 90 (fun kk hk => ?_)
    conv => whnf
    refine b_ne h2 (b := 0) rfl (fun _ => ?_) (fun q => by omega)
    conv => whnf
    refine b_ne h2 (b := 2) rfl (fun _ => ?_) (fun q => by omega)
    conv => whnf
    exact hk _ _ _ _ (ks _)
  · subst e
    have ea := exA 0 (by omega)
    have eb := exB 0 (by omega)
    rw [sp_cmp2]
    refine jm_run ok_M_compare [97] 90 (fun kk hk => ?_)
    conv => whnf
    refine b_ne h2 (b := 0) rfl (fun _ => ?_) (fun q => by omega)
    conv => whnf
    refine b_ne h2 (b := 2) rfl (fun q => absurd rfl q) (fun _ => ?_)
    conv => whnf
    refine hk _ _ _ _ (k_M_compare_67 rfl (c_mexp (v := 0) ha (by omega)) (fun u hu => ?_))
    subst hu
    show J g (d + 2) 79 70 _ _ σ _
    refine jm_run ok_M_compare [97] 90 (fun kk hk => ?_)
    conv => whnf
    refine hk _ _ _ _ (k_M_compare_72 rfl (c_mexp (v := 0) hb (by omega)) (fun u hu => ?_))
    subst hu
    show J g (d + 2) 79 75 _ _ σ _
    by_cases heq : sp_ex a 0 = sp_ex b 0
    · rw [if_pos (by omega)]
      refine jm_run ok_M_compare [97] 90 (fun kk hk => ?_)
      conv => whnf
      refine b_eq (a := sp_ex a 0) (b := sp_ex b 0) rfl rfl (fun _ => ?_) (fun h => absurd heq h)
      conv => whnf
      exact hk _ _ _ _ (ks _)
    · rw [if_neg (by omega)]
      refine jm_run ok_M_compare [97] 90 (fun kk hk => ?_)
      conv => whnf
      refine b_eq (a := sp_ex a 0) (b := sp_ex b 0) rfl rfl (fun h => absurd h heq) (fun _ => ?_)
      conv => whnf
      refine hk _ _ _ _ (k_M_compare_80 rfl (c_mexp (v := 0) ha (by omega)) (fun u hu => ?_))
      subst hu
      show J g (d + 2) 79 83 _ _ σ _
      refine jm_run ok_M_compare [97] 90 (fun kk hk => ?_)
      conv => whnf
      refine hk _ _ _ _ (k_M_compare_85 rfl (c_mexp (v := 0) hb (by omega)) (fun u hu => ?_))
      subst hu
      show J g (d + 2) 79 88 _ _ σ _
      rcases Nat.lt_or_gt_of_ne heq with q | q
      · rw [sgn_n (by omega)]
        refine jm_run ok_M_compare [97] 90 (fun kk hk => ?_)
        conv => whnf
        refine b_le (a := sp_ex b 0) (b := sp_ex a 0) rfl rfl (fun h => by omega) (fun _ => ?_)
        conv => whnf
        exact hk _ _ _ _ (r_M_compare_96 rfl)
      · rw [sgn_p (by omega)]
        refine jm_run ok_M_compare [97] 90 (fun kk hk => ?_)
        conv => whnf
        refine b_le (a := sp_ex b 0) (b := sp_ex a 0) rfl rfl (fun _ => ?_) (fun h => by omega)
        conv => whnf
        exact hk _ _ _ _ (r_M_compare_96 rfl)
end
