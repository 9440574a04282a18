/-! THE MODEL: divides, common, product, lowest -/
theorem dk_HV {a b : sp_M} {n : Nat} (ha : HV n a) (hn : n ≤ 5) : sp_dk a b n = sp_dv a b := by
  have key : ∀ k, n + k ≤ 5 → sp_dk a b (n + k) = sp_dk a b n := by
    intro k
    induction k with
    | zero => intro _; rfl
    | succ k ih =>
      intro hk
      rw [show n + (k + 1) = (n + k) + 1 from rfl, sp_dk_s, ih (by omega), ha (n + k) (by omega) (by omega), decide_eq_true (Nat.zero_le _), Bool.and_true]
  have := key (5 - n) (by omega)
  rw [show n + (5 - n) = 5 by omega] at this
  exact this.symm
theorem dk_f {a b : sp_M} {n v : Nat} (hv : v < n) (h : sp_ex b v < sp_ex a v) : sp_dk a b n = false := by
  cases hq : sp_dk a b n with
  | false => rfl
  | true =>
    have := of_decide_eq_true (List.all_eq_true.mp hq v (List.mem_range.mpr hv))
    omega
theorem fk_HV {a b : sp_M} {n : Nat} (ha : HV n a) (hb : HV n b) (hn : n ≤ 5) : sp_fk a b n = sp_fit a b := by
  have key : ∀ k, n + k ≤ 5 → sp_fk a b (n + k) = sp_fk a b n := by
    intro k
    induction k with
    | zero => intro _; rfl
    | succ k ih =>
      intro hk
      rw [show n + (k + 1) = (n + k) + 1 from rfl, sp_fk_s, ih (by omega), ha (n + k) (by omega) (by omega), hb (n + k) (by omega) (by omega), decide_eq_true (by omega), Bool.and_true]
  have := key (5 - n) (by omega)
  rw [show n + (5 - n) = 5 by omega] at this
  exact this.symm
/-- the number of the first exponents -/
def qd (m : sp_M) : Nat → Nat
  | 0 => 0
  | v + 1 => sp_ex m v * 2 ^ (5 * v) + qd m v
theorem qd5 (m : sp_M) : qd m 5 = sp_5 m := by
  show m.2.2.2.2 * 2 ^ 20 + (m.2.2.2.1 * 2 ^ 15 + (m.2.2.1 * 2 ^ 10 + (m.2.1 * 2 ^ 5 + (m.1 * 2 ^ 0 + 0)))) = m.1 + m.2.1 * 32 + m.2.2.1 * 1024 + m.2.2.2.1 * 32768 + m.2.2.2.2 * 1048576
  omega
theorem qd_lt {m : sp_M} (hm : sp_ok m) : ∀ v, qd m v < 2 ^ (5 * v)
  | 0 => by show 0 < 2 ^ 0; decide
  | v + 1 => by
    have h1 := qd_lt hm v
    have h2 := sp_ok_ex hm v
    unfold qd
    rw [show 5 * (v + 1) = 5 * v + 5 from rfl, Nat.pow_add]
    have h3 : sp_ex m v * 2 ^ (5 * v) ≤ 30 * 2 ^ (5 * v) := Nat.mul_le_mul_right _ h2
    omega
theorem qd_HV {m : sp_M} {n : Nat} (h : HV n m) (hn : n ≤ 5) : qd m n = sp_5 m := by
  have key : ∀ k, n + k ≤ 5 → qd m (n + k) = qd m n := by
    intro k
    induction k with
    | zero => intro _; rfl
    | succ k ih =>
      intro hk
      rw [show n + (k + 1) = (n + k) + 1 from rfl, qd, ih (by omega), h (n + k) (by omega) (by omega), Nat.zero_mul, Nat.zero_add]
  have := key (5 - n) (by omega)
  rw [show n + (5 - n) = 5 by omega, qd5] at this
  exact this.symm
theorem qd_or {m : sp_M} (hm : sp_ok m) {v : Nat} (hv : v < 5) : nI (qd m v) ||| (nI (sp_ex m v) <<< ((5 * nI v) &&& 31)) = nI (qd m (v + 1)) := by
  have h1 := qd_lt hm v
  have h2 := sp_ok_ex hm v
  have h9 := qd_lt hm (v + 1)
  have hb : sp_ex m v * 2 ^ (5 * v) + qd m v < 2 ^ 32 := Nat.lt_of_lt_of_le h9 (Nat.pow_le_pow_right (by decide) (by omega))
  have hs : nI (sp_ex m v) <<< ((5 * nI v) &&& 31) = nI (sp_ex m v * 2 ^ (5 * v)) := by
    rcases lt5 hv with e | e | e | e | e <;> subst e
    · rw [pk_shlN _ 0 (by decide) (Nat.lt_of_le_of_lt (Nat.mul_le_mul_right _ h2) (by decide))]
    · rw [pk_shlN _ 5 (by decide) (Nat.lt_of_le_of_lt (Nat.mul_le_mul_right _ h2) (by decide))]
    · rw [pk_shlN _ 10 (by decide) (Nat.lt_of_le_of_lt (Nat.mul_le_mul_right _ h2) (by decide))]
    · rw [pk_shlN _ 15 (by decide) (Nat.lt_of_le_of_lt (Nat.mul_le_mul_right _ h2) (by decide))]
    · rw [pk_shlN _ 20 (by decide) (Nat.lt_of_le_of_lt (Nat.mul_le_mul_right _ h2) (by decide))]
  rw [hs, Int32.or_comm]
  exact nI_or (k := 5 * v) rfl h1 hb
section
variable {g : jm_G} {d : Nat} {σ : jm_S} {m : Nat}
theorem c_misPlace {x : Int32} : J g d 83 0 [some (aI x)] [] σ (jR σ (aI (sp_bi (sp_ip x)))) := by
  refine jm_run ok_M_isPlace [] 90 (fun kk hk => ?_)
  conv => whnf
  refine ⟨fun h1 => ?_, fun h1 => ?_⟩
  · have h2 := Int32.lt_iff_toInt_lt.mp h1
    have h3 : sp_ip x = false := decide_eq_false (fun q => by have : (0 : Int32).toInt = 0 := rfl; omega)
    conv => whnf
    exact hk _ _ _ _ (r_M_isPlace_15 (Or.inl rfl) (by rw [h3]; exact rfl))
  · have h2 : ¬ x.toInt < (0 : Int32).toInt := fun q => h1 (Int32.lt_iff_toInt_lt.mpr q)
    have e0 : (0 : Int32).toInt = 0 := rfl
    have e40 : (40 : Int32).toInt = 40 := rfl
    conv => whnf
    refine ⟨fun h3 => ?_, fun h3 => ?_⟩
    · have h4 := Int32.le_iff_toInt_le.mp h3
      have h5 : sp_ip x = false := decide_eq_false (fun q => by omega)
      conv => whnf
      exact hk _ _ _ _ (r_M_isPlace_15 (Or.inl rfl) (by rw [h5]; exact rfl))
    · have h4 : ¬ (40 : Int32).toInt ≤ x.toInt := fun q => h3 (Int32.le_iff_toInt_le.mpr q)
      have h5 : sp_ip x = true := decide_eq_true (by omega)
      conv => whnf
      exact hk _ _ _ _ (r_M_isPlace_15 (Or.inr rfl) (by rw [h5]; exact rfl))
theorem c_mdivides {a b : sp_M} {n : Nat} (ha : sp_ok a) (hb : sp_ok b) (va : HV n a) (h1 : σ.1 m 1 = nI n) (hn : n ≤ 5) : J g (d + 1) 112 0 [some (aR 6 m), some (aI (sp_d a)), some (aI (sp_d b)), none] [] σ (jR σ (aI (sp_bi (sp_dv a b)))) := by
  rw [← dk_HV va hn]
  have loop : ∀ k v, v + k = n → sp_dk a b v = true → J g (d + 1) 112 2 [some (aR 6 m), some (aI (sp_d a)), some (aI (sp_d b)), some (aI (nI v))] [] σ (jR σ (aI (sp_bi (sp_dk a b n)))) := by
    intro k
    induction k with
    | zero =>
      intro v hv hd
      obtain rfl : v = n := by omega
      rw [hd]
      refine jm_run ok_M_divides [2] 90 (fun kk hk => ?_)
      conv => whnf
      refine b_le h1 rfl (fun _ => ?_) (fun h => by omega)
      conv => whnf
      exact hk _ _ _ _ (r_M_divides_32 (Or.inr rfl) rfl)
    | succ k ih =>
      intro v hv hd
      have ea := sp_ok_ex ha v
      have eb := sp_ok_ex hb v
      refine jm_run ok_M_divides [2] 90 (fun kk hk => ?_)
      conv => whnf
      refine b_le h1 rfl (fun h => by omega) (fun _ => ?_)
      conv => whnf
      refine hk _ _ _ _ (k_M_divides_12 rfl (c_mexp ha (by omega)) (fun u hu => ?_))
      subst hu
      show J g (d + 1) 112 15 _ _ σ _
      refine jm_run ok_M_divides [2] 90 (fun kk hk => ?_)
      conv => whnf
      refine hk _ _ _ _ (k_M_divides_17 rfl (c_mexp hb (by omega)) (fun u hu => ?_))
      subst hu
      show J g (d + 1) 112 20 _ _ σ _
      by_cases hle : sp_ex a v ≤ sp_ex b v
      · refine jm_run ok_M_divides [2] 90 (fun kk hk => ?_)
        conv => whnf
        refine b_le (a := sp_ex a v) (b := sp_ex b v) rfl rfl (fun _ => ?_) (fun h => by omega)
        conv => whnf
        rw [nI_1]
        exact hk _ _ _ _ (ih (v + 1) (by omega) (by rw [sp_dk_s, hd, decide_eq_true hle]; rfl))
      · rw [dk_f (n := n) (v := v) (by omega) (by omega)]
        refine jm_run ok_M_divides [2] 90 (fun kk hk => ?_)
        conv => whnf
        refine b_le (a := sp_ex a v) (b := sp_ex b v) rfl rfl (fun h => by omega) (fun _ => ?_)
        conv => whnf
        exact hk _ _ _ _ (r_M_divides_24 (Or.inl rfl) rfl)
  refine jm_run ok_M_divides [2] 90 (fun kk hk => ?_)
  conv => whnf
  exact hk _ _ _ _ (loop n 0 (by omega) rfl)
theorem c_mcommon {a b : sp_M} {n : Nat} (ha : sp_ok a) (hb : sp_ok b) (va : HV n a) (vb : HV n b) (h1 : σ.1 m 1 = nI n) (hn : n ≤ 5) : J g (d + 1) 110 0 [some (aR 6 m), some (aI (sp_d a)), some (aI (sp_d b)), none, none, none, none] [] σ (jR σ (aI (sp_d (sp_cm a b)))) := by
  have hc := sp_cm_ok ha hb
  have hq := qd_HV (HV_cm va vb) hn
  unfold sp_d at hq ⊢
  rw [← hq]
  have loop : ∀ k v, v + k = n → ∀ z5 z6 : Option jm_V, J g (d + 1) 110 5 [some (aR 6 m), some (aI (sp_d a)), some (aI (sp_d b)), some (aI (nI (qd (sp_cm a b) v))), some (aI (nI v)), z5, z6] [] σ (jR σ (aI (nI (qd (sp_cm a b) n)))) := by
    intro k
    induction k with
    | zero =>
      intro v hv z5 z6
      obtain rfl : v = n := by omega
      refine jm_run ok_M_common [5] 90 (fun kk hk => ?_)
      conv => whnf
      refine b_le h1 rfl (fun _ => ?_) (fun h => by omega)
      conv => whnf
      exact hk _ _ _ _ (r_M_common_59 rfl)
    | succ k ih =>
      intro v hv z5 z6
      have ea := sp_ok_ex ha v
      have eb := sp_ok_ex hb v
      have hex := sp_cm_ex a b v
      refine jm_run ok_M_common [5] 90 (fun kk hk => ?_)
      conv => whnf
      refine b_le h1 rfl (fun h => by omega) (fun _ => ?_)
      conv => whnf
      refine hk _ _ _ _ (k_M_common_17 rfl (c_mexp ha (by omega)) (fun u hu => ?_))
      subst hu
      show J g (d + 1) 110 20 _ _ σ _
      refine jm_run ok_M_common [5] 90 (fun kk hk => ?_)
      conv => whnf
      refine hk _ _ _ _ (k_M_common_25 rfl (c_mexp hb (by omega)) (fun u hu => ?_))
      subst hu
      show J g (d + 1) 110 28 _ _ σ _
      refine jm_run ok_M_common [5] 90 (fun kk hk => ?_)
      conv => whnf
      refine b_le (a := sp_ex a v) (b := sp_ex b v) rfl rfl (fun h => ?_) (fun h => ?_)
      · have e : sp_ex b v = sp_ex (sp_cm a b) v := by rw [hex]; omega
        rw [e]
        conv => whnf
        rw [qd_or hc (by omega), nI_1]
        exact hk _ _ _ _ (ih (v + 1) (by omega) _ _)
      · have e : sp_ex a v = sp_ex (sp_cm a b) v := by rw [hex]; omega
        rw [e]
        conv => whnf
        rw [qd_or hc (by omega), nI_1]
        exact hk _ _ _ _ (ih (v + 1) (by omega) _ _)
  refine jm_run ok_M_common [5] 90 (fun kk hk => ?_)
  conv => whnf
  exact hk _ _ _ _ (loop n 0 (by omega) _ _)
/-- only numbers of the model's own have changed: whether it is full, and the fraction -/
def FL (σ : jm_S) (m : Nat) (f : Nat → Nat → Int32) : Prop := (∀ q, q ≠ m → f q = σ.1 q) ∧ ∀ k, k ≠ 11 → k ≠ 16 → k ≠ 17 → f m k = σ.1 m k
theorem c_mproduct {a b : sp_M} {n : Nat} (ha : sp_ok a) (hb : sp_ok b) (va : HV n a) (vb : HV n b) (h1 : σ.1 m 1 = nI n) (hn : n ≤ 5) (h11 : σ.1 m 11 = 0) : J g (d + 1) 93 0 [some (aR 6 m), some (aI (sp_d a)), some (aI (sp_d b)), none] [] σ (fun u => ∃ f, FL σ m f ∧ f m 11 = sp_bi (!sp_fit a b) ∧ u = ((f, σ.2), .inl (some (aI (cond (sp_fit a b) (sp_d (sp_mm a b)) 0))))) := by
  rw [← fk_HV va vb hn]
  have loop : ∀ k v, v + k = n → ∀ f : Nat → Nat → Int32, FL σ m f → f m 11 = sp_bi (!sp_fk a b v) → J g (d + 1) 93 2 [some (aR 6 m), some (aI (sp_d a)), some (aI (sp_d b)), some (aI (nI v))] [] (f, σ.2) (fun u => ∃ f, FL σ m f ∧ f m 11 = sp_bi (!sp_fk a b n) ∧ u = ((f, σ.2), .inl (some (aI (cond (sp_fk a b n) (sp_d (sp_mm a b)) 0))))) := by
    intro k
    induction k with
    | zero =>
      intro v hv f hf hf11
      obtain rfl : v = n := by omega
      have f1 : f m 1 = nI v := (hf.2 1 (by decide) (by decide) (by decide)).trans h1
      cases hq : sp_fk a b v with
      | false =>
        rw [hq] at hf11
        refine jm_run ok_M_product [2] 90 (fun kk hk => ?_)
        conv => whnf
        refine b_le f1 rfl (fun _ => ?_) (fun h => by omega)
        conv => whnf
        refine b_z (b := true) hf11 (fun h => by cases h) (fun _ => ?_)
        conv => whnf
        exact hk _ _ _ _ (r_M_product_62 ⟨f, hf, hf11, rfl⟩)
      | true =>
        rw [hq] at hf11
        refine jm_run ok_M_product [2] 90 (fun kk hk => ?_)
        conv => whnf
        refine b_le f1 rfl (fun _ => ?_) (fun h => by omega)
        conv => whnf
        refine b_z (b := false) hf11 (fun _ => ?_) (fun h => by cases h)
        conv => whnf
        rw [sp_mm_d]
        exact hk _ _ _ _ (r_M_product_62 ⟨f, hf, hf11, rfl⟩)
    | succ k ih =>
      intro v hv f hf hf11
      have f1 : f m 1 = nI n := (hf.2 1 (by decide) (by decide) (by decide)).trans h1
      have ea := sp_ok_ex ha v
      have eb := sp_ok_ex hb v
      have nx : ∀ c : Bool, sp_fk a b (v + 1) = !c → J g (d + 1) 93 39 [some (aR 6 m), some (aI (sp_d a)), some (aI (sp_d b)), some (aI (nI v))] [aI (sp_bi c), aR 6 m] (f, σ.2) (fun u => ∃ f, FL σ m f ∧ f m 11 = sp_bi (!sp_fk a b n) ∧ u = ((f, σ.2), .inl (some (aI (cond (sp_fk a b n) (sp_d (sp_mm a b)) 0))))) := by
        intro c hc
        have hst : jm_wi (f, σ.2) m 11 (sp_bi c) = ((jm_wi (f, σ.2) m 11 (sp_bi c)).1, σ.2) := rfl
        refine jm_run ok_M_product [2] 90 (fun kk hk => ?_)
        conv => whnf
        refine ⟨sp_bi_01 c, ?_⟩
        conv => whnf
        rw [nI_1, hst]
        exact hk _ _ _ _ (ih (v + 1) (by omega) _ ⟨fun q hq => (jm_wi_q hq).trans (hf.1 q hq), fun k k1 k2 k3 => (jm_wi_k k1).trans (hf.2 k k1 k2 k3)⟩ (by rw [hc, Bool.not_not]; exact jm_wi_at))
      cases hq : sp_fk a b v with
      | false =>
        rw [hq] at hf11
        refine jm_run ok_M_product [39] 90 (fun kk hk => ?_)
        conv => whnf
        refine b_le f1 rfl (fun h => by omega) (fun _ => ?_)
        conv => whnf
        refine b_nz (b := true) hf11 (fun _ => ?_) (fun h => by cases h)
        conv => whnf
        exact hk _ _ _ _ (nx true (by rw [sp_fk_s, hq]; rfl))
      | true =>
        rw [hq] at hf11
        refine jm_run ok_M_product [39] 90 (fun kk hk => ?_)
        conv => whnf
        refine b_le f1 rfl (fun h => by omega) (fun _ => ?_)
        conv => whnf
        refine b_nz (b := false) hf11 (fun h => by cases h) (fun _ => ?_)
        conv => whnf
        refine hk _ _ _ _ (k_M_product_20 rfl (c_mexp ha (by omega)) (fun u hu => ?_))
        subst hu
        show J g (d + 1) 93 23 _ _ (f, σ.2) _
        refine jm_run ok_M_product [39] 90 (fun kk hk => ?_)
        conv => whnf
        refine hk _ _ _ _ (k_M_product_25 rfl (c_mexp hb (by omega)) (fun u hu => ?_))
        subst hu
        show J g (d + 1) 93 28 _ _ (f, σ.2) _
        refine jm_run ok_M_product [39] 90 (fun kk hk => ?_)
        conv => whnf
        rw [nI_add]
        refine b_le (a := sp_ex a v + sp_ex b v) (b := 30) rfl rfl (fun hle => ?_) (fun hlt => ?_)
        · conv => whnf
          exact hk _ _ _ _ (nx false (by rw [sp_fk_s, hq, decide_eq_true hle]; rfl))
        · conv => whnf
          exact hk _ _ _ _ (nx true (by rw [sp_fk_s, hq, decide_eq_false (by omega)]; rfl))
  refine jm_run ok_M_product [2] 90 (fun kk hk => ?_)
  conv => whnf
  exact hk _ _ _ _ (loop n 0 (by omega) σ.1 ⟨fun _ _ => rfl, fun _ _ _ _ => rfl⟩ h11)
/-- how lowest ends -/
def jL (σ : jm_S) (m : Nat) (o : Option (Int × Int)) : jm_O → Prop := fun u => ∃ f, FL σ m f ∧ ((∃ r, o = some r ∧ f m 11 = 0 ∧ f m 16 = sp_i r.1 ∧ f m 17 = sp_i r.2) ∨ (o = none ∧ f m 11 = 1)) ∧ u = ((f, σ.2), .inl none)
theorem c_mlowest {A B : Int} (hA : A.natAbs < 9223372036854775808) (hB : B.natAbs < 9223372036854775808) (hB0 : 0 < B) (h11 : σ.1 m 11 = 0) : J g d 85 0 [some (aR 6 m), some (aL (sp_l A)), none, some (aL (sp_l B)), none, none, none, none, none, none, none, none, none] [] σ (jL σ m (sp_fr A B)) := by
  have hg0 : 0 < Int.gcd A B := Int.gcd_pos_iff.mpr (Or.inr (by omega))
  have hgle : Int.gcd A B ≤ B.natAbs := Nat.gcd_le_right _ (by omega)
  have hx1 : (A.tdiv (Int.gcd A B)).natAbs ≤ A.natAbs := by rw [Int.natAbs_tdiv]; exact Nat.div_le_self _ _
  have hy1 : (B.tdiv (Int.gcd A B)).natAbs ≤ B.natAbs := by rw [Int.natAbs_tdiv]; exact Nat.div_le_self _ _
  have hgn : ((Int.gcd A B : Nat) : Int).natAbs < 9223372036854775808 := by omega
  have hY0 : 0 ≤ B.tdiv (Int.gcd A B) := Int.tdiv_nonneg (by omega) (by omega)
  have em : (1000000000 : Int64) = sp_l 1000000000 := by decide
  have en : (-1000000000 : Int64) = sp_l (-1000000000) := by decide
  have e1 : sp_l A / sp_l (Int.gcd A B : Nat) = sp_l (A.tdiv (Int.gcd A B)) := sp_ldiv hA hgn
  have e2 : sp_l B / sp_l (Int.gcd A B : Nat) = sp_l (B.tdiv (Int.gcd A B)) := sp_ldiv hB hgn
  have hfr : sp_fr A B = if (A.tdiv (Int.gcd A B)).natAbs ≤ 1000000000 ∧ (B.tdiv (Int.gcd A B)).natAbs ≤ 1000000000 then some (A.tdiv (Int.gcd A B), B.tdiv (Int.gcd A B)) else none := by
    unfold sp_fr
    rw [if_neg (show ¬ B < 0 by omega), show ((B.tdiv (Int.gcd A B)).natAbs : Int) = B.tdiv (Int.gcd A B) by omega]
  generalize hX : A.tdiv (Int.gcd A B) = X at hx1 e1 hfr
  generalize hY : B.tdiv (Int.gcd A B) = Y at hy1 hY0 e2 hfr
  have last : ∀ (c : Bool) (z5 z6 z7 z8 : Option jm_V), (c = true → sp_fr A B = none) → (c = false → sp_fr A B = some (X, Y)) → J g d 85 94 [some (aR 6 m), some (aL (sp_l A)), none, some (aL (sp_l B)), none, z5, z6, z7, z8, some (aL (sp_l X)), none, some (aL (sp_l Y)), none] [aI (sp_bi c), aR 6 m] σ (jL σ m (sp_fr A B)) := by
    intro c z5 z6 z7 z8 hc1 hc0
    cases c with
    | true =>
      refine jm_run ok_M_lowest [] 90 (fun kk hk => ?_)
      conv => whnf
      refine ⟨Or.inr rfl, ?_⟩
      conv => whnf
      refine b_z (b := true) jm_wi_at (fun h => by cases h) (fun _ => ?_)
      conv => whnf
      refine b_z (b := true) ((jm_wi_k (by decide)).trans jm_wi_at) (fun h => by cases h) (fun _ => ?_)
      conv => whnf
      refine hk _ _ _ _ (r_M_lowest_133 ⟨_, ⟨fun q hq => (jm_wi_q hq).trans ((jm_wi_q hq).trans (jm_wi_q hq)), fun k k1 k2 k3 => (jm_wi_k k3).trans ((jm_wi_k k2).trans (jm_wi_k k1))⟩, Or.inr ⟨hc1 rfl, (jm_wi_k (by decide)).trans ((jm_wi_k (by decide)).trans jm_wi_at)⟩, rfl⟩)
    | false =>
      refine jm_run ok_M_lowest [] 90 (fun kk hk => ?_)
      conv => whnf
      refine ⟨Or.inl rfl, ?_⟩
      conv => whnf
      refine b_z (b := false) jm_wi_at (fun _ => ?_) (fun h => by cases h)
      conv => whnf
      refine b_z (b := false) ((jm_wi_k (by decide)).trans jm_wi_at) (fun _ => ?_) (fun h => by cases h)
      conv => whnf
      rw [sp_li, sp_li]
      refine hk _ _ _ _ (r_M_lowest_133 ⟨_, ⟨fun q hq => (jm_wi_q hq).trans ((jm_wi_q hq).trans (jm_wi_q hq)), fun k k1 k2 k3 => (jm_wi_k k3).trans ((jm_wi_k k2).trans (jm_wi_k k1))⟩, Or.inl ⟨(X, Y), hc0 rfl, (jm_wi_k (by decide)).trans ((jm_wi_k (by decide)).trans jm_wi_at), (jm_wi_k (by decide)).trans jm_wi_at, jm_wi_at⟩, rfl⟩)
  have fin : ∀ (z7 z8 z9 z10 : Option jm_V), J g d 85 42 [some (aR 6 m), some (aL (sp_l A)), none, some (aL (sp_l B)), none, some (aL (sp_l (Int.gcd A B : Nat))), none, z7, none, z9, none, none, none] [] σ (jL σ m (sp_fr A B)) := by
    intro z7 z8 z9 z10
    have hnz : ¬ sp_l (Int.gcd A B : Nat) = 0 := fun q => absurd (Int64.toInt_inj.mpr q) (by rw [sp_lI hgn]; show ((Int.gcd A B : Nat) : Int) ≠ 0; omega)
    refine jm_run ok_M_lowest [94] 90 (fun kk hk => ?_)
    conv => whnf
    refine ⟨hnz, ?_⟩
    conv => whnf
    refine ⟨hnz, ?_⟩
    conv => whnf
    rw [e1, e2]
    refine b_nz (b := false) h11 (fun h => by cases h) (fun _ => ?_)
    conv => whnf
    refine ⟨fun h1 => ?_, fun h1 => ?_⟩
    · have h2 := (lg_cmp_gt _ _).mp h1
      rw [em, sp_llt (by decide) (by omega)] at h2
      conv => whnf
      exact hk _ _ _ _ (last true _ _ _ _ (fun _ => by rw [hfr, if_neg (by omega)]) (fun h => by cases h))
    · have h2 : ¬ _ := fun q => h1 ((lg_cmp_gt _ _).mpr q)
      rw [em, sp_llt (by decide) (by omega)] at h2
      conv => whnf
      refine ⟨fun h3 => ?_, fun h3 => ?_⟩
      · have h4 := (lg_cmp_lt _ _).mp h3
        rw [en, sp_llt (by omega) (by decide)] at h4
        conv => whnf
        exact hk _ _ _ _ (last true _ _ _ _ (fun _ => by rw [hfr, if_neg (by omega)]) (fun h => by cases h))
      · have h4 : ¬ _ := fun q => h3 ((lg_cmp_lt _ _).mpr q)
        rw [en, sp_llt (by omega) (by decide)] at h4
        conv => whnf
        refine ⟨fun h5 => ?_, fun h5 => ?_⟩
        · have h6 := (lg_cmp_le _ _).mp h5
          rw [em, sp_lle (by omega) (by decide)] at h6
          conv => whnf
          exact hk _ _ _ _ (last false _ _ _ _ (fun h => by cases h) (fun _ => by rw [hfr, if_pos ⟨by omega, by omega⟩]))
        · have h6 : ¬ _ := fun q => h5 ((lg_cmp_le _ _).mpr q)
          rw [em, sp_lle (by omega) (by decide)] at h6
          conv => whnf
          exact hk _ _ _ _ (last true _ _ _ _ (fun _ => by rw [hfr, if_neg (by omega)]) (fun h => by cases h))
  have loop : ∀ n Y X : Nat, Y ≤ n → X < 9223372036854775808 → Y < 9223372036854775808 → Nat.gcd X Y = Int.gcd A B → ∀ z9 : Option jm_V, J g d 85 17 [some (aR 6 m), some (aL (sp_l A)), none, some (aL (sp_l B)), none, some (aL (lN X)), none, some (aL (lN Y)), none, z9, none, none, none] [] σ (jL σ m (sp_fr A B)) := by
    intro n
    induction n with
    | zero =>
      intro Y X hY hX hY2 hg z9
      have h0 : Y = 0 := by omega
      subst h0
      rw [Nat.gcd_zero_right] at hg
      rw [sp_lN X, hg]
      refine jm_run ok_M_lowest [17, 42] 90 (fun kk hk => ?_)
      conv => whnf
      refine ⟨fun _ => ?_, fun h => absurd ((lg_cmp_eq _ _).mpr rfl) h⟩
      conv => whnf
      exact hk _ _ _ _ (fin _ none _ none)
    | succ n ih =>
      intro Y X hY hX hY2 hg z9
      by_cases h1 : Y = 0
      · subst h1
        rw [Nat.gcd_zero_right] at hg
        rw [sp_lN X, hg]
        refine jm_run ok_M_lowest [17, 42] 90 (fun kk hk => ?_)
        conv => whnf
        refine ⟨fun _ => ?_, fun h => absurd ((lg_cmp_eq _ _).mpr rfl) h⟩
        conv => whnf
        exact hk _ _ _ _ (fin _ none _ none)
      · refine jm_run ok_M_lowest [17, 42] 90 (fun kk hk => ?_)
        conv => whnf
        refine ⟨fun h => absurd ((pk_lEQ hY2 (by decide)).mp ((lg_cmp_eq _ _).mp h : lN Y = lN 0)) h1, fun h => ?_⟩
        conv => whnf
        refine ⟨fun q => h1 ((pk_lEQ hY2 (by decide)).mp (q.trans (by rfl : (0 : Int64) = lN 0))), ?_⟩
        conv => whnf
        have h2 := ih (X % Y) Y (by have := Nat.mod_lt X (Nat.pos_of_ne_zero h1); omega) hY2 (by have := Nat.mod_lt X (Nat.pos_of_ne_zero h1); omega) (by rw [Nat.gcd_comm, ← Nat.gcd_rec, Nat.gcd_comm]; exact hg) (some (aL (lN (X % Y))))
        rw [← pk_lRem hX (Nat.pos_of_ne_zero h1) hY2] at h2
        exact hk _ _ _ _ h2
  have hBn : sp_l B = lN B.natAbs := by rw [sp_lN]; congr 1; omega
  have start := loop _ B.natAbs A.natAbs (Nat.le_refl _) hA hB rfl none
  refine jm_run ok_M_lowest [17] 90 (fun kk hk => ?_)
  conv => whnf
  refine ⟨fun h => ?_, fun h => ?_⟩
  · have h2 := (lg_cmp_ge _ _).mp h
    rw [sp_l0, sp_lle (by decide) hA] at h2
    rw [show lN A.natAbs = sp_l A by rw [sp_lN]; congr 1; omega, ← hBn] at start
    conv => whnf
    exact hk _ _ _ _ start
  · have h2 : ¬ _ := fun q => h ((lg_cmp_ge _ _).mpr q)
    rw [sp_l0, sp_lle (by decide) hA] at h2
    rw [show lN A.natAbs = -sp_l A by rw [sp_lN, sp_lneg]; congr 1; omega, ← hBn] at start
    conv => whnf
    exact hk _ _ _ _ start
theorem c_mmult {A B C D : Int} (hA : A.natAbs ≤ 1000000000) (hB : 1 ≤ B ∧ B ≤ 1000000000) (hC : C.natAbs ≤ 1000000000) (hD : 1 ≤ D ∧ D ≤ 1000000000) (h11 : σ.1 m 11 = 0) : J g (d + 1) 94 0 [some (aR 6 m), some (aL (sp_l A)), none, some (aL (sp_l B)), none, some (aL (sp_l C)), none, some (aL (sp_l D)), none] [] σ (jL σ m (sp_fr (A * C) (B * D))) := by
  have m1 := sp_mulb hA hC
  have m2 := sp_mulb (a := B) (b := D) (m := 1000000000) (n := 1000000000) (by omega) (by omega)
  refine jm_run ok_M_multiplied [] 90 (fun kk hk => ?_)
  conv => whnf
  rw [sp_lmul, sp_lmul]
  refine hk _ _ _ _ (k_M_multiplied_9 rfl (c_mlowest (by omega) (by omega) (Int.mul_pos (by omega) (by omega)) h11) (fun u hu => ?_))
  obtain ⟨f, hf, h3, hu⟩ := hu
  subst hu
  exact r_M_multiplied_12 ⟨f, hf, h3, rfl⟩
end
