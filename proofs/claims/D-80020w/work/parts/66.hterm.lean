/-! the House: term -/
/-- a byte of a number -/
def by8 (x : Int32) (v : Nat) : Nat := x.toBitVec.toNat / 2 ^ (8 * v) % 256
theorem by8_lt (x : Int32) (v : Nat) : by8 x v < 256 := Nat.mod_lt _ (by decide)
theorem by8_e (x : Int32) {v : Nat} (hv : v < 4) : (x.toUInt32 >>> ((8 * nI v).toUInt32 &&& Int32.toUInt32 31)).toInt32 &&& 255 = nI (by8 x v) := by
  have : v = 0 ∨ v = 1 ∨ v = 2 ∨ v = 3 := by omega
  rw [pk_and _ 8 (by decide)]
  rcases this with rfl | rfl | rfl | rfl
  · rw [pk_ushr x _ 0 (by decide)]; rfl
  · rw [pk_ushr x _ 8 (by decide)]; rfl
  · rw [pk_ushr x _ 16 (by decide)]; rfl
  · rw [pk_ushr x _ 24 (by decide)]; rfl
theorem i32_l (x : Int32) : x.toInt64 = sp_l x.toInt := by
  have := x.toInt_lt
  have := x.le_toInt
  apply Int64.toInt_inj.mp
  rw [sp_lI (by omega), Int32.toInt_toInt64]
theorem i32_i (x : Int32) : sp_i x.toInt = x := Int32.ofInt_toInt x
/-- the exponents that are told as bytes -/
def tM (x : Int32) : sp_M := (if by8 x 0 ≤ 30 then by8 x 0 else 0, (if by8 x 1 ≤ 30 then by8 x 1 else 0, (if by8 x 2 ≤ 30 then by8 x 2 else 0, (if by8 x 3 ≤ 30 then by8 x 3 else 0, 0))))
theorem tM_le (b : Nat) : (if b ≤ 30 then b else 0) ≤ 30 := by split <;> omega
theorem tM_ok (x : Int32) : sp_ok (tM x) := ⟨tM_le _, tM_le _, tM_le _, tM_le _, Nat.zero_le 30⟩
theorem tM_ex (x : Int32) {v : Nat} (hv : v < 4) (h : by8 x v ≤ 30) : sp_ex (tM x) v = by8 x v := by
  have : v = 0 ∨ v = 1 ∨ v = 2 ∨ v = 3 := by omega
  rcases this with rfl | rfl | rfl | rfl <;> exact if_pos h
/-- whether the bytes fit -/
def tg (n : Nat) (x : Int32) (k : Nat) : Bool := (List.range k).all (fun v => decide (by8 x v ≤ if v < n then 30 else 0))
theorem tg_s (n : Nat) (x : Int32) (k : Nat) : tg n x (k + 1) = (tg n x k && decide (by8 x k ≤ if k < n then 30 else 0)) := by
  unfold tg
  rw [List.range_succ, List.all_append, List.all_cons, List.all_nil, Bool.and_true]
theorem tg_le {n : Nat} {x : Int32} : ∀ {k v : Nat}, tg n x k = true → v < k → by8 x v ≤ if v < n then 30 else 0 := by
  intro k v h hv
  exact of_decide_eq_true (List.all_eq_true.mp h v (List.mem_range.mpr hv))
theorem tM_HV {n : Nat} {x : Int32} (hn : n ≤ 4) (h : tg n x 4 = true) : HV n (tM x) := by
  intro i h1 h2
  by_cases h4 : i = 4
  · subst h4; rfl
  · have hb := tg_le (v := i) h (by omega)
    rw [if_neg (by omega)] at hb
    rw [tM_ex x (by omega) (by omega)]
    omega
/-- whether the numbers fit -/
def tn (a b : Int32) : Bool := decide (a.toInt.natAbs ≤ 1000000000 ∧ b.toInt.natAbs ≤ 1000000000 ∧ b.toInt ≠ 0)
def op_term (S : sp_H) (x a b w : Int32) : Int32 × sp_H :=
  if sp_ip x = true then (if tn a b = true ∧ tg (hv S) w 4 = true then (if a.toInt = 0 then (nI (pg S x.toNatClampNeg).length, S) else op_give S x.toNatClampNeg ((sp_fr a.toInt b.toInt).bind (fun r => sp_come (hkd S) (pg S x.toNatClampNeg) r.1 r.2 (tM w)))) else (-2, S)) else (-1, S)
section
variable {g : jm_G} {d : Nat} {σ : jm_S} {h : Nat} {S : sp_H}
theorem i32_0 {x : Int32} : x = 0 ↔ x.toInt = 0 := by
  rw [← Int32.toInt_inj]; exact Iff.rfl
/-- where the loop over the bytes ends -/
theorem c_termE {k : Nat} {a b w : Int32} {y : Int32} {z7 z8 : Option jm_V} (hR : HR g σ h S) (hG : GS S) (hr : sp_rm g σ) (hh : h + 1631 ≤ σ.2.2.1) (hk40 : k < 40) (hn : tn a b = true) (hg : tg (hv S) w 4 = true) (hy : y = sp_c (tM w)) :
    J g (d + 7) 16 129 [some (aR 1 h), some (aI (nI k)), some (aI a), some (aI b), some (aI w), some (aI 1), some (aI y), z7, z8] [] σ (jH g σ h (if a.toInt = 0 then (nI (pg S k).length, S) else op_give S k ((sp_fr a.toInt b.toInt).bind (fun r => sp_come (hkd S) (pg S k) r.1 r.2 (tM w)))).1 (if a.toInt = 0 then (nI (pg S k).length, S) else op_give S k ((sp_fr a.toInt b.toInt).bind (fun r => sp_come (hkd S) (pg S k) r.1 r.2 (tM w)))).2) := by
  subst hy
  have hH := hR.1
  have hP := hR.pl hG hk40
  have hpr := hH.ple hk40
  have w1 := (pg_ok hG hk40).1
  have hj := hG.2.1
  have hn := of_decide_eq_true hn
  by_cases ha : a.toInt = 0
  · rw [if_pos ha]
    refine jm_run ok_H_term [] 90 (fun kk hk => ?_)
    conv => whnf
    refine ⟨fun q => absurd (i32_0.mpr ha) q, fun _ => ?_⟩
    conv => whnf
    refine jg hH.fpl ?_
    conv => whnf
    refine jr rfl hH.npl hpr.1 ?_
    conv => whnf
    rw [hP.1]
    exact hk _ _ _ _ (r_H_term_142 (jH_same hR))
  · rw [if_neg ha]
    refine jm_run ok_H_term [] 90 (fun kk hk => ?_)
    conv => whnf
    refine ⟨fun _ => ?_, fun q => absurd (i32_0.mp q) ha⟩
    conv => whnf
    refine jg hH.fm ?_
    conv => whnf
    refine jg hH.fpl ?_
    conv => whnf
    refine jr rfl hH.npl hpr.1 ?_
    conv => whnf
    refine hk _ _ _ _ (k_H_term_153 rfl (c_become hH.pm hpr.2 hP w1.1 (by unfold dj; omega)) (fun u hu => ?_))
    obtain ⟨f, hf, hu, hPA⟩ := jO_some hu
    subst hu
    show J g (d + 7) 16 156 _ _ (f, σ.2) _
    have h2' : f h 2 = nI (hkd S) := by rw [hf h (by omega) (by omega)]; exact hR.2.1.2.1
    refine jm_run ok_H_term [] 90 (fun kk hk => ?_)
    conv => whnf
    refine jg hH.fx ?_
    conv => whnf
    rw [i32_l a, i32_l b]
    refine hk _ _ _ _ (k_H_term_164 rfl (c_set (σ := (f, σ.2)) (by omega) (by omega) hn.2.2 hr) (fun u hu => ?_))
    have thr : ∀ f3 : Nat → Nat → Int32, (∀ q, ¬ (h + 1524 ≤ q ∧ q < h + 1529) → f3 q = σ.1 q) → ∀ z7 z8 : Option jm_V, J g (d + 7) 16 201 [some (aR 1 h), some (aI (nI k)), some (aI a), some (aI b), some (aI w), some (aI 1), some (aI (sp_c (tM w))), z7, z8] [aR 7 σ.2.2.1] (jm_wi (jm_nw (f3, σ.2) 7) σ.2.2.1 0 (-7)) (jH g σ h (-7) S) := by
      intro f3 hff z7 z8
      refine jm_run ok_H_term [] 90 (fun kk hk => ?_)
      conv => whnf
      exact hk _ _ _ _ (r_H_term_208 (jH_thr (HR_fr hR hG (fun _ _ _ => rfl) (fun q _ _ _ h3 => hff q (by omega))) hG hh (fun q hq => hff q (by omega)) (fun _ _ => rfl) rfl))
    refine sp_set_el2 hu (fun hn0 hu => ?_) (fun r f1 hfr hu hf1 hx0 hx1 => ?_)
    · subst hu
      rw [hn0]
      exact thr f (fun q hq => hf q (by omega) (by omega)) _ _
    · subst hu
      rw [hfr]
      have rb := sp_fr_b hn.2.2 hfr
      have r0 : r.1 ≠ 0 := fun q => ha (rb.2.2.2.mp q)
      have hPA1 : PA f1 (h + 1525) (pg S k) := PA_frame hPA (hf1 _ (by omega)) (hf1 _ (by omega)) (hf1 _ (by omega)) (hf1 _ (by omega))
      have h21 : f1 h 2 = nI (hkd S) := by rw [hf1 h (by omega)]; exact h2'
      show J g (d + 7) 16 167 _ _ (f1, σ.2) _
      refine jm_run ok_H_term [] 90 (fun kk hk => ?_)
      conv => whnf
      refine jg hH.fm ?_
      conv => whnf
      refine hk _ _ _ _ (k_H_term_172 rfl (c_order2 (σ := (f1, σ.2)) hH hj h21) (fun u hu => ?_))
      subst hu
      show J g (d + 7) 16 175 _ _ (f1, σ.2) _
      refine jm_run ok_H_term [] 90 (fun kk hk => ?_)
      conv => whnf
      refine jg hH.fx ?_
      conv => whnf
      refine jg hH.fx ?_
      conv => whnf
      rw [show (f1, σ.2).1 (h + 1524) 0 = sp_i r.1 from hx0]
      refine jg hH.fx ?_
      conv => whnf
      rw [show (f1, σ.2).1 (h + 1524) 1 = sp_i r.2 from hx1]
      refine hk _ _ _ _ (k_H_term_195 rfl (c_come (σ := (f1, σ.2)) hH.pm hPA1 w1 hj rb.1 ⟨rb.2.1, rb.2.2.1⟩ (tM_ok w) (by omega) hr) (fun u hu => ?_))
      obtain ⟨f3, hf3, h3⟩ := hu
      have hff : ∀ q, ¬ (h + 1524 ≤ q ∧ q < h + 1529) → f3 q = σ.1 q := fun q hq => (hf3 q (by omega) (by omega)).trans ((hf1 q (by omega)).trans (hf q (by omega) (by omega)))
      rcases h3 with ⟨p2, hp2, hu, hPA2⟩ | ⟨hn3, hu⟩
      · subst hu
        rw [show (some r).bind (fun r => sp_come (hkd S) (pg S k) r.1 r.2 (tM w)) = some p2 from hp2]
        have pw2 : sp_pw p2 := sp_come_w w1 ⟨r0, rb.1, rb.2.1, rb.2.2.1, tM_ok w⟩ hp2
        show J g (d + 7) 16 198 _ _ (f3, σ.2) _
        refine jm_run ok_H_term [] 90 (fun kk hk => ?_)
        conv => whnf
        refine jg hH.fm ?_
        conv => whnf
        refine hk _ _ _ _ (k_H_term_215 rfl (c_give (σ := (f3, σ.2)) hH hk40 hH.pm hPA2 pw2.1 (by unfold dj; omega)) (fun u hu => ?_))
        obtain ⟨f4, hf4, hPA4, hu⟩ := hu
        subst hu
        have hff4 : ∀ q, ¬ (h + 1524 ≤ q ∧ q < h + 1529) → ¬ (h + 3 + 4 * k ≤ q ∧ q ≤ h + 3 + 4 * k + 3) → f4 q = σ.1 q := fun q h1 h2 => (hf4 q h2).trans (hff q h1)
        exact r_H_term_218 (jH_ret (HR_give hR hG hk40 (fun _ _ _ => rfl) hPA4 (fun q _ _ _ h3 h4 => hff4 q (by omega) h4)) (fun q hq => hff4 q (by omega) (by omega)) (fun _ _ => rfl) rfl)
      · subst hu
        rw [show (some r).bind (fun r => sp_come (hkd S) (pg S k) r.1 r.2 (tM w)) = none from hn3]
        exact thr f3 hff _ _
theorem c_term {x a b w : Int32} (hR : HR g σ h S) (hG : GS S) (hr : sp_rm g σ) (hh : h + 1631 ≤ σ.2.2.1) : J g (d + 7) 16 0 [some (aR 1 h), some (aI x), some (aI a), some (aI b), some (aI w), none, none, none, none] [] σ (jH g σ h (op_term S x a b w).1 (op_term S x a b w).2) := by
  have hv4 := hG.1.2
  refine jm_run ok_H_term [] 90 (fun kk hk => ?_)
  conv => whnf
  refine hk _ _ _ _ (k_H_term_1 rfl c_isPlace (fun u hu => ?_))
  subst hu
  show J g (d + 7) 16 4 _ _ σ _
  unfold op_term
  cases hx : sp_ip x with
  | false =>
    rw [if_neg (by decide)]
    refine jm_run ok_H_term [] 90 (fun kk hk => ?_)
    conv => whnf
    refine b_nz (b := false) rfl (fun h => by cases h) (fun _ => ?_)
    conv => whnf
    exact hk _ _ _ _ (r_H_term_8 (jH_same hR))
  | true =>
    rw [if_pos rfl]
    obtain ⟨k, hk40, rfl⟩ := sp_ip_t hx
    rw [nI_clamp (by omega)]
    have loop : ∀ n v, v + n = 4 → ∀ (y : Int32) (z8 : Option jm_V), (tg (hv S) w v = true → y = nI (sp_pt (tM w) v)) → J g (d + 7) 16 50 [some (aR 1 h), some (aI (nI k)), some (aI a), some (aI b), some (aI w), some (aI (sp_bi (tn a b && tg (hv S) w v))), some (aI y), some (aI (nI v)), z8] [] σ
        (jH g σ h (if tn a b = true ∧ tg (hv S) w 4 = true then (if a.toInt = 0 then (nI (pg S k).length, S) else op_give S k ((sp_fr a.toInt b.toInt).bind (fun r => sp_come (hkd S) (pg S k) r.1 r.2 (tM w)))) else (-2, S)).1 (if tn a b = true ∧ tg (hv S) w 4 = true then (if a.toInt = 0 then (nI (pg S k).length, S) else op_give S k ((sp_fr a.toInt b.toInt).bind (fun r => sp_come (hkd S) (pg S k) r.1 r.2 (tM w)))) else (-2, S)).2) := by
      intro n
      induction n with
      | zero =>
        intro v hvn y z8 hy
        obtain rfl : v = 4 := by omega
        cases hb : (tn a b && tg (hv S) w 4) with
        | true =>
          rw [Bool.and_eq_true] at hb
          rw [if_pos hb]
          have e6 : sp_pt (tM w) 4 = sp_6 (tM w) := (Nat.add_zero _).symm.trans (sp_pt5 (tM w))
          refine jm_run ok_H_term [50, 129] 90 (fun kk hk => ?_)
          conv => whnf
          refine b_le (a := 4) (b := 4) rfl rfl (fun _ => ?_) (fun h => by omega)
          conv => whnf
          refine b_nz (b := true) rfl (fun _ => ?_) (fun h => by cases h)
          conv => whnf
          exact hk _ _ _ _ (c_termE hR hG hr hh hk40 hb.1 hb.2 ((hy hb.2).trans (congrArg nI e6)))
        | false =>
          rw [if_neg (fun q => by rw [q.1, q.2] at hb; cases hb)]
          refine jm_run ok_H_term [50, 129] 90 (fun kk hk => ?_)
          conv => whnf
          refine b_le (a := 4) (b := 4) rfl rfl (fun _ => ?_) (fun h => by omega)
          conv => whnf
          refine b_nz (b := false) rfl (fun h => by cases h) (fun _ => ?_)
          conv => whnf
          exact hk _ _ _ _ (r_H_term_128 (jH_same hR))
      | succ n ih =>
        intro v hvn y z8 hy
        have hb8 := by8_lt w v
        have nxt : ∀ c : Bool, c = decide (by8 w v ≤ if v < hv S then 30 else 0) → J g (d + 7) 16 97 [some (aR 1 h), some (aI (nI k)), some (aI a), some (aI b), some (aI w), some (aI (sp_bi (tn a b && tg (hv S) w v))), some (aI y), some (aI (nI v)), some (aI (nI (by8 w v)))] [aI (sp_bi c), aI (sp_bi (tn a b && tg (hv S) w v))] σ
            (jH g σ h (if tn a b = true ∧ tg (hv S) w 4 = true then (if a.toInt = 0 then (nI (pg S k).length, S) else op_give S k ((sp_fr a.toInt b.toInt).bind (fun r => sp_come (hkd S) (pg S k) r.1 r.2 (tM w)))) else (-2, S)).1 (if tn a b = true ∧ tg (hv S) w 4 = true then (if a.toInt = 0 then (nI (pg S k).length, S) else op_give S k ((sp_fr a.toInt b.toInt).bind (fun r => sp_come (hkd S) (pg S k) r.1 r.2 (tM w)))) else (-2, S)).2) := by
          intro c hc
          have e : ((tn a b && tg (hv S) w v) && c) = (tn a b && tg (hv S) w (v + 1)) := by rw [tg_s, hc, Bool.and_assoc]
          refine jm_run ok_H_term [50] 90 (fun kk hk => ?_)
          conv => whnf
          rw [sp_bi_and, pk_andN (by omega) 6 (by decide), e]
          refine hk _ _ _ _ (k_H_term_109 rfl (c_power (by omega) (Nat.mod_lt _ (by decide))) (fun u hu => ?_))
          subst hu
          show J g (d + 7) 16 112 _ _ σ _
          refine jm_run ok_H_term [50] 90 (fun kk hk => ?_)
          conv => whnf
          rw [nI_1]
          refine hk _ _ _ _ (ih (v + 1) (by omega) _ _ (fun ht => ?_))
          rw [tg_s, Bool.and_eq_true] at ht
          have hle := of_decide_eq_true ht.2
          have h30 : by8 w v ≤ 30 := by split at hle <;> omega
          rw [hy ht.1, ← sp_pt_or (tM_ok w) (by omega), tM_ex w (by omega) h30, Nat.mod_eq_of_lt (by omega)]
        refine jm_run ok_H_term [50, 97] 90 (fun kk hk => ?_)
        conv => whnf
        refine b_le (a := 4) (b := v) rfl rfl (fun h => by omega) (fun _ => ?_)
        conv => whnf
        rw [by8_e w (by omega)]
        refine b_le hR.2.1.1 rfl (fun hc => ?_) (fun hc => ?_)
        · rw [if_neg (by omega)] at nxt
          conv => whnf
          refine b_lt (a := 0) (b := by8 w v) rfl rfl (fun q => ?_) (fun q => ?_)
          · conv => whnf
            exact hk _ _ _ _ (nxt false (decide_eq_false (by omega)).symm)
          · conv => whnf
            exact hk _ _ _ _ (nxt true (decide_eq_true (by omega)).symm)
        · rw [if_pos (by omega)] at nxt
          conv => whnf
          refine b_lt (a := 30) (b := by8 w v) rfl rfl (fun q => ?_) (fun q => ?_)
          · conv => whnf
            exact hk _ _ _ _ (nxt false (decide_eq_false (by omega)).symm)
          · conv => whnf
            exact hk _ _ _ _ (nxt true (decide_eq_true (by omega)).symm)
    have st : ∀ c : Bool, c = tn a b → J g (d + 7) 16 42 [some (aR 1 h), some (aI (nI k)), some (aI a), some (aI b), some (aI w), none, none, none, none] [aI (sp_bi c)] σ
        (jH g σ h (if tn a b = true ∧ tg (hv S) w 4 = true then (if a.toInt = 0 then (nI (pg S k).length, S) else op_give S k ((sp_fr a.toInt b.toInt).bind (fun r => sp_come (hkd S) (pg S k) r.1 r.2 (tM w)))) else (-2, S)).1 (if tn a b = true ∧ tg (hv S) w 4 = true then (if a.toInt = 0 then (nI (pg S k).length, S) else op_give S k ((sp_fr a.toInt b.toInt).bind (fun r => sp_come (hkd S) (pg S k) r.1 r.2 (tM w)))) else (-2, S)).2) := by
      intro c hc
      have h9 := loop 4 0 rfl 0 none (fun _ => rfl)
      rw [show (tn a b && tg (hv S) w 0) = c from (Bool.and_true _).trans hc.symm] at h9
      refine jm_run ok_H_term [50] 90 (fun kk hk => ?_)
      conv => whnf
      exact hk _ _ _ _ h9
    have ha1 := a.toInt_lt
    have ha2 := a.le_toInt
    have hb1 := b.toInt_lt
    have hb2 := b.le_toInt
    have em : (1000000000 : Int64) = sp_l 1000000000 := by decide
    refine jm_run ok_H_term [42] 90 (fun kk hk => ?_)
    conv => whnf
    refine b_nz (b := true) rfl (fun _ => ?_) (fun h => by cases h)
    conv => whnf
    refine ⟨fun h1 => ?_, fun h1 => ?_⟩
    · have h2 := (lg_cmp_gt _ _).mp h1
      rw [i32_l a, sp_labs (by omega), sp_lN, em, sp_llt (by decide) (by omega)] at h2
      conv => whnf
      exact hk _ _ _ _ (st false (decide_eq_false (fun q => by omega)).symm)
    · have h2 : ¬ _ := fun q => h1 ((lg_cmp_gt _ _).mpr q)
      rw [i32_l a, sp_labs (by omega), sp_lN, em, sp_llt (by decide) (by omega)] at h2
      conv => whnf
      refine ⟨fun h3 => ?_, fun h3 => ?_⟩
      · have h4 := (lg_cmp_gt _ _).mp h3
        rw [i32_l b, sp_labs (by omega), sp_lN, em, sp_llt (by decide) (by omega)] at h4
        conv => whnf
        exact hk _ _ _ _ (st false (decide_eq_false (fun q => by omega)).symm)
      · have h4 : ¬ _ := fun q => h3 ((lg_cmp_gt _ _).mpr q)
        rw [i32_l b, sp_labs (by omega), sp_lN, em, sp_llt (by decide) (by omega)] at h4
        conv => whnf
        refine ⟨fun h5 => ?_, fun h5 => ?_⟩
        · conv => whnf
          exact hk _ _ _ _ (st false (decide_eq_false (fun q => q.2.2 (i32_0.mp h5))).symm)
        · conv => whnf
          exact hk _ _ _ _ (st true (decide_eq_true ⟨by omega, by omega, fun q => h5 (i32_0.mpr q)⟩).symm)
end
