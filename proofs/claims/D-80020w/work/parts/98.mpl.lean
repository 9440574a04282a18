/-! THE MODEL: plus, times, told, element, share -/
section
variable {g : jm_G} {d : Nat} {σ : jm_S} {m : Nat} {S : sp_H}
theorem FM.f10 {f : Nat → Nat → Int32} (h : FM σ m f) : ∀ k, k ≤ 10 → f m k = σ.1 m k := fun k hk => h.2 k (by omega) (by omega) (by omega)
/-- what was made in slot 150 is taken to a place -/
theorem mtk {T : Nat → sp_P} {f : Nat → Nat → Int32} {l : sp_P} {r : Nat} {o : Option sp_P} (hR : MR g σ m S) (hG : GS S) (hT : MT T S) (hF : FM σ m f) {T2 : Nat → sp_P} (hS : MS f m (tU T2 150 l)) (h2 : ∀ q, ks S q → T2 q = T q) (h6 : (o = some l ∧ f m 11 = 0) ∨ (o = none ∧ f m 11 = 1)) (hr : r < 40) :
    J g (d + 1) 87 0 [some (aR 6 m), some (aI (nI 150)), some (aI (nI r))] [] (f, σ.2) (jMd g σ m (op_give S r o).1 (op_give S r o).2) := by
  have hM := hR.1
  have hgl := hG.2.2.2.1
  have hT2 : MT (tU T2 150 l) S := MT_fr hG hT (fun q hq => (tU_ne (by unfold ks at hq; omega)).trans (h2 q hq))
  rcases h6 with ⟨ho, h11⟩ | ⟨ho, h11⟩
  · subst ho
    refine J_mono (c_mtaken (σ := (f, σ.2)) hM hS (by omega) (by omega) (by omega) h11) (fun u hu => ?_)
    obtain ⟨f4, hf4, hS4, hu⟩ := hu
    subst hu
    rw [tU_at] at hS4 ⊢
    exact jMd_mk hM (MF_fr hR.2.1 (fun k hk => (congrFun (hf4 m (by omega)) k).trans (hF.f10 k hk))) (MD_fr hR.2.2.1 ((hf4 _ (by omega)).trans (hF.1 _ (by omega)))) hS4 (MT_set hG hT2 hr) (fun q hq => (hf4 q (by omega)).trans (hF.1 q (by omega)))
  · subst ho
    refine J_mono (c_mtaken1 (σ := (f, σ.2)) h11) (fun u hu => ?_)
    subst hu
    exact jMd_mk hM (MF_fr hR.2.1 hF.f10) (MD_fr hR.2.2.1 (hF.1 _ (by omega))) hS hT2 (fun q hq => hF.1 q (by omega))
theorem c_mplus {x y z : Int32} (hR : MR g σ m S) (hG : GS S) : J g (d + 5) 91 0 [some (aR 6 m), some (aI x), some (aI y), some (aI z)] [] σ (jMd g σ m (op_plus S x y z).1 (op_plus S x y z).2) := by
  have hM := hR.1
  obtain ⟨T, hS, hT⟩ := hR.2.2.2
  refine jm_run ok_M_plus [] 90 (fun kk hk => ?_)
  conv => whnf
  refine hk _ _ _ _ (k_M_plus_1 rfl c_misPlace (fun u hu => ?_))
  subst hu
  show J g (d + 5) 91 4 _ _ σ _
  unfold op_plus
  cases hx : sp_ip x with
  | false =>
    rw [if_neg (fun q => by cases q.1)]
    refine jm_run ok_M_plus [] 90 (fun kk hk => ?_)
    conv => whnf
    refine b_z (b := false) rfl (fun _ => ?_) (fun h => by cases h)
    conv => whnf
    exact hk _ _ _ _ (r_M_plus_22 (jMd_same hR))
  | true =>
    refine jm_run ok_M_plus [] 90 (fun kk hk => ?_)
    conv => whnf
    refine b_z (b := true) rfl (fun h => by cases h) (fun _ => ?_)
    conv => whnf
    refine hk _ _ _ _ (k_M_plus_8 rfl c_misPlace (fun u hu => ?_))
    subst hu
    show J g (d + 5) 91 11 _ _ σ _
    cases hy : sp_ip y with
    | false =>
      rw [if_neg (fun q => by cases q.2.1)]
      refine jm_run ok_M_plus [] 90 (fun kk hk => ?_)
      conv => whnf
      refine b_z (b := false) rfl (fun _ => ?_) (fun h => by cases h)
      conv => whnf
      exact hk _ _ _ _ (r_M_plus_22 (jMd_same hR))
    | true =>
      refine jm_run ok_M_plus [] 90 (fun kk hk => ?_)
      conv => whnf
      refine b_z (b := true) rfl (fun h => by cases h) (fun _ => ?_)
      conv => whnf
      refine hk _ _ _ _ (k_M_plus_15 rfl c_misPlace (fun u hu => ?_))
      subst hu
      show J g (d + 5) 91 18 _ _ σ _
      cases hz : sp_ip z with
      | false =>
        rw [if_neg (fun q => by cases q.2.2)]
        refine jm_run ok_M_plus [] 90 (fun kk hk => ?_)
        conv => whnf
        refine b_nz (b := false) rfl (fun h => by cases h) (fun _ => ?_)
        conv => whnf
        exact hk _ _ _ _ (r_M_plus_22 (jMd_same hR))
      | true =>
        rw [if_pos ⟨rfl, rfl, rfl⟩]
        obtain ⟨k, hk40, rfl⟩ := sp_ip_t hx
        obtain ⟨l, hl40, rfl⟩ := sp_ip_t hy
        obtain ⟨r, hr40, rfl⟩ := sp_ip_t hz
        have p1 := pg_ok hG hk40
        have p2 := pg_ok hG hl40
        rw [nI_clamp (by omega), nI_clamp (by omega), nI_clamp (by omega)]
        have e1 := hT.at hk40
        have e2 := hT.at hl40
        have hst : jm_wi σ m 11 0 = ((jm_wi σ m 11 0).1, σ.2) := rfl
        have hFl : FM σ m (jm_wi σ m 11 0).1 := ⟨fun q hq => jm_wi_q (by omega), fun k a _ _ => jm_wi_k a⟩
        have h110 : (jm_wi σ m 11 0).1 m 11 = 0 := jm_wi_at
        have hS0 : MS (jm_wi σ m 11 0).1 m T := MS_fr hS (fun q a b => jm_wi_q (by omega))
        refine jm_run ok_M_plus [] 90 (fun kk hk => ?_)
        conv => whnf
        refine b_nz (b := true) rfl (fun _ => ?_) (fun h => by cases h)
        conv => whnf
        refine ⟨Or.inl rfl, ?_⟩
        conv => whnf
        rw [hst]
        generalize (jm_wi σ m 11 0).1 = F at hFl h110 hS0
        refine hk _ _ _ _ (k_M_plus_33 rfl (c_mcopy (σ := (F, σ.2)) (a := k) (b := 150) hM hS0 (by omega) (by omega) (by omega)) (fun u hu => ?_))
        obtain ⟨f, hf, hS1, hu⟩ := hu
        subst hu
        have hF1 : FM σ m f := ⟨fun q hq => (hf q (by omega)).trans (hFl.1 q hq), fun k a b c => (congrFun (hf m (by omega)) k).trans (hFl.2 k a b c)⟩
        rw [e1] at hS1
        show J g (d + 5) 91 36 _ _ (f, σ.2) _
        refine jm_run ok_M_plus [] 90 (fun kk hk => ?_)
        conv => whnf
        refine hk _ _ _ _ (k_M_plus_44 rfl (c_madds (σ := (f, σ.2)) (d := d) (fs := 150) (gs := l) (A := 1) (B := 1) (mo := sp_zm) hM (hF1.mc (hR.mc hG)) hS1 (by omega) (by omega) (by omega) (by rw [tU_at]; exact p1.1) (by rw [tU_at]; exact p1.2.2) (by rw [tU_ne (by omega), e2]; exact p2.1) (by rw [tU_ne (by omega), e2]; exact p2.2.2) sp_cf1 sp_zm_ok (HV_zm _) ((congrFun (hf m (by omega)) 11).trans h110)) (fun u hu => ?_))
        obtain ⟨f2, l2, hf2, hS2, h6, hu⟩ := hu
        subst hu
        rw [tU_at, tU_ne (show l ≠ 150 by omega), e2] at h6
        rw [tU_tU] at hS2
        have hF2 := hF1.trans hf2
        show J g (d + 5) 91 47 _ _ (f2, σ.2) _
        refine jm_run ok_M_plus [] 90 (fun kk hk => ?_)
        conv => whnf
        refine hk _ _ _ _ (k_M_plus_52 rfl (mtk (d := d + 3) hR hG hT hF2 hS2 (fun _ _ => rfl) h6 hr40) (fun u hu => ?_))
        obtain ⟨f4, a1, a2, rfl⟩ := hu
        exact r_M_plus_55 ⟨f4, a1, a2, rfl⟩
theorem c_mtimes {x y z : Int32} (hR : MR g σ m S) (hG : GS S) : J g (d + 6) 95 0 [some (aR 6 m), some (aI x), some (aI y), some (aI z)] [] σ (jMd g σ m (op_times S x y z).1 (op_times S x y z).2) := by
  have hM := hR.1
  obtain ⟨T, hS, hT⟩ := hR.2.2.2
  refine jm_run ok_M_times [] 90 (fun kk hk => ?_)
  conv => whnf
  refine hk _ _ _ _ (k_M_times_1 rfl c_misPlace (fun u hu => ?_))
  subst hu
  show J g (d + 6) 95 4 _ _ σ _
  unfold op_times
  cases hx : sp_ip x with
  | false =>
    rw [if_neg (fun q => by cases q.1)]
    refine jm_run ok_M_times [] 90 (fun kk hk => ?_)
    conv => whnf
    refine b_z (b := false) rfl (fun _ => ?_) (fun h => by cases h)
    conv => whnf
    exact hk _ _ _ _ (r_M_times_22 (jMd_same hR))
  | true =>
    refine jm_run ok_M_times [] 90 (fun kk hk => ?_)
    conv => whnf
    refine b_z (b := true) rfl (fun h => by cases h) (fun _ => ?_)
    conv => whnf
    refine hk _ _ _ _ (k_M_times_8 rfl c_misPlace (fun u hu => ?_))
    subst hu
    show J g (d + 6) 95 11 _ _ σ _
    cases hy : sp_ip y with
    | false =>
      rw [if_neg (fun q => by cases q.2.1)]
      refine jm_run ok_M_times [] 90 (fun kk hk => ?_)
      conv => whnf
      refine b_z (b := false) rfl (fun _ => ?_) (fun h => by cases h)
      conv => whnf
      exact hk _ _ _ _ (r_M_times_22 (jMd_same hR))
    | true =>
      refine jm_run ok_M_times [] 90 (fun kk hk => ?_)
      conv => whnf
      refine b_z (b := true) rfl (fun h => by cases h) (fun _ => ?_)
      conv => whnf
      refine hk _ _ _ _ (k_M_times_15 rfl c_misPlace (fun u hu => ?_))
      subst hu
      show J g (d + 6) 95 18 _ _ σ _
      cases hz : sp_ip z with
      | false =>
        rw [if_neg (fun q => by cases q.2.2)]
        refine jm_run ok_M_times [] 90 (fun kk hk => ?_)
        conv => whnf
        refine b_nz (b := false) rfl (fun h => by cases h) (fun _ => ?_)
        conv => whnf
        exact hk _ _ _ _ (r_M_times_22 (jMd_same hR))
      | true =>
        rw [if_pos ⟨rfl, rfl, rfl⟩]
        obtain ⟨k, hk40, rfl⟩ := sp_ip_t hx
        obtain ⟨l, hl40, rfl⟩ := sp_ip_t hy
        obtain ⟨r, hr40, rfl⟩ := sp_ip_t hz
        have p1 := pg_ok hG hk40
        have p2 := pg_ok hG hl40
        rw [nI_clamp (by omega), nI_clamp (by omega), nI_clamp (by omega)]
        have e1 := hT.at hk40
        have e2 := hT.at hl40
        have hst : jm_wi σ m 11 0 = ((jm_wi σ m 11 0).1, σ.2) := rfl
        have hFl : FM σ m (jm_wi σ m 11 0).1 := ⟨fun q hq => jm_wi_q (by omega), fun k a _ _ => jm_wi_k a⟩
        have h110 : (jm_wi σ m 11 0).1 m 11 = 0 := jm_wi_at
        have hS0 : MS (jm_wi σ m 11 0).1 m T := MS_fr hS (fun q a b => jm_wi_q (by omega))
        refine jm_run ok_M_times [] 90 (fun kk hk => ?_)
        conv => whnf
        refine b_nz (b := true) rfl (fun _ => ?_) (fun h => by cases h)
        conv => whnf
        refine ⟨Or.inl rfl, ?_⟩
        conv => whnf
        rw [hst]
        generalize (jm_wi σ m 11 0).1 = F at hFl h110 hS0
        refine hk _ _ _ _ (k_M_times_34 rfl (c_mmade (σ := (F, σ.2)) (d := d) (a := k) (b := l) (c := 150) hM (hFl.mc (hR.mc hG)) hS0 (by omega) (by omega) (by omega) (by omega) (by omega) (by rw [e1]; exact p1.1) (by rw [e1]; exact p1.2.2) (by rw [e2]; exact p2.1) (by rw [e2]; exact p2.2.2) h110) (fun u hu => ?_))
        obtain ⟨f2, l2, hf2, hS2, h6, hu⟩ := hu
        subst hu
        rw [e1, e2] at h6
        have hF2 := hFl.trans hf2
        show J g (d + 6) 95 37 _ _ (f2, σ.2) _
        refine jm_run ok_M_times [] 90 (fun kk hk => ?_)
        conv => whnf
        refine hk _ _ _ _ (k_M_times_42 rfl (mtk (d := d + 4) hR hG hT hF2 hS2 (fun _ _ => rfl) h6 hr40) (fun u hu => ?_))
        obtain ⟨f4, a1, a2, rfl⟩ := hu
        exact r_M_times_45 ⟨f4, a1, a2, rfl⟩
theorem c_mtold {x y z : Int32} (hR : MR g σ m S) (hG : GS S) : J g (d + 1) 90 0 [some (aR 6 m), some (aI x), some (aI y), some (aI z), none, none, none] [] σ (jMd g σ m (op_told S x y z).1 (op_told S x y z).2) := by
  have hM := hR.1
  obtain ⟨T, hS, hT⟩ := hR.2.2.2
  refine jm_run ok_M_told [] 90 (fun kk hk => ?_)
  conv => whnf
  refine hk _ _ _ _ (k_M_told_1 rfl c_misPlace (fun u hu => ?_))
  subst hu
  show J g (d + 1) 90 4 _ _ σ _
  unfold op_told
  cases hx : sp_ip x with
  | false =>
    rw [if_neg (fun q => by cases q.1)]
    refine jm_run ok_M_told [] 90 (fun kk hk => ?_)
    conv => whnf
    refine b_z (b := false) rfl (fun _ => ?_) (fun h => by cases h)
    conv => whnf
    exact hk _ _ _ _ (r_M_told_22 (jMd_same hR))
  | true =>
    obtain ⟨k, hk40, rfl⟩ := sp_ip_t hx
    rw [nI_clamp (n := k) (by omega)]
    have hP := (hS k (by omega)).2
    rw [hT.at hk40] at hP
    have hw := (pg_ok hG hk40).1
    generalize pg S k = p at hP hw
    have hw1 := hw.1
    by_cases hy : 0 ≤ y.toInt ∧ y.toInt < p.length
    · rw [if_pos ⟨rfl, hy⟩]
      obtain ⟨i, hi, rfl⟩ := vp_in_of (n := p.length) (vp_in_iff.mpr hy) (by omega)
      have gi : p[i]? = some p[i] := List.getElem?_eq_getElem hi
      rw [nI_clamp (by omega), List.getD_eq_getElem?_getD, gi]
      have row := hP.2 _ _ gi
      have tw := sp_pw_at hw gi
      generalize p[i] = t at gi row tw
      show J g (d + 1) 90 4 _ _ σ (jMd g σ m (if z = nI 0 then sp_i t.1 else if z = nI 1 then sp_i t.2.1 else if z = nI 2 then tp t.2.2 4 else -2) S)
      have fin : J g (d + 1) 90 72 [some (aR 6 m), some (aI (nI k)), some (aI (nI i)), some (aI z), some (aI (nI (100 * k + i))), some (aI (tp t.2.2 4)), some (aI (nI 4))] [] σ (jMd g σ m (if z = nI 0 then sp_i t.1 else if z = nI 1 then sp_i t.2.1 else if z = nI 2 then tp t.2.2 4 else -2) S) := by
        by_cases h0 : z = nI 0
        · rw [if_pos h0]
          subst h0
          refine jm_run ok_M_told [72] 90 (fun kk hk => ?_)
          conv => whnf
          refine b_ne (a := 0) (b := 0) rfl rfl (fun h => absurd rfl h) (fun _ => ?_)
          conv => whnf
          refine jg hM.num ?_
          conv => whnf
          refine ja (i := 100 * k + i) rfl hM.l1 row.1 ?_
          conv => whnf
          exact hk _ _ _ _ (r_M_told_113 (jMd_same hR))
        · rw [if_neg h0]
          by_cases h1 : z = nI 1
          · rw [if_pos h1]
            subst h1
            refine jm_run ok_M_told [72] 90 (fun kk hk => ?_)
            conv => whnf
            refine b_ne (a := 1) (b := 0) rfl rfl (fun _ => ?_) (fun h => by omega)
            conv => whnf
            refine b_ne (a := 1) (b := 1) rfl rfl (fun h => absurd rfl h) (fun _ => ?_)
            conv => whnf
            refine jg hM.den ?_
            conv => whnf
            refine ja (i := 100 * k + i) rfl hM.l2 row.2.1 ?_
            conv => whnf
            exact hk _ _ _ _ (r_M_told_113 (jMd_same hR))
          · rw [if_neg h1]
            by_cases h2 : z = nI 2
            · rw [if_pos h2]
              subst h2
              refine jm_run ok_M_told [72] 90 (fun kk hk => ?_)
              conv => whnf
              refine b_ne (a := 2) (b := 0) rfl rfl (fun _ => ?_) (fun h => by omega)
              conv => whnf
              refine b_ne (a := 2) (b := 1) rfl rfl (fun _ => ?_) (fun h => by omega)
              conv => whnf
              refine b_ne (a := 2) (b := 2) rfl rfl (fun h => absurd rfl h) (fun _ => ?_)
              conv => whnf
              exact hk _ _ _ _ (r_M_told_113 (jMd_same hR))
            · rw [if_neg h2]
              refine jm_run ok_M_told [72] 90 (fun kk hk => ?_)
              conv => whnf
              refine ⟨fun _ => ?_, fun h => absurd h h0⟩
              conv => whnf
              refine ⟨fun _ => ?_, fun h => absurd h h1⟩
              conv => whnf
              refine ⟨fun _ => ?_, fun h => absurd h h2⟩
              conv => whnf
              exact hk _ _ _ _ (r_M_told_113 (jMd_same hR))
      have loop : ∀ n v, v + n = 4 → J g (d + 1) 90 37 [some (aR 6 m), some (aI (nI k)), some (aI (nI i)), some (aI z), some (aI (nI (100 * k + i))), some (aI (tp t.2.2 v)), some (aI (nI v))] [] σ (jMd g σ m (if z = nI 0 then sp_i t.1 else if z = nI 1 then sp_i t.2.1 else if z = nI 2 then tp t.2.2 4 else -2) S) := by
        intro n
        induction n with
        | zero =>
          intro v hv
          obtain rfl : v = 4 := by omega
          refine jm_run ok_M_told [72] 90 (fun kk hk => ?_)
          conv => whnf
          refine b_le (a := 4) (b := 4) rfl rfl (fun _ => ?_) (fun h => by omega)
          conv => whnf
          exact hk _ _ _ _ fin
        | succ n ih =>
          intro v hv
          refine jm_run ok_M_told [37] 90 (fun kk hk => ?_)
          conv => whnf
          refine b_le (a := 4) (b := v) rfl rfl (fun h => by omega) (fun _ => ?_)
          conv => whnf
          refine jg hM.mono ?_
          conv => whnf
          refine ja (i := 100 * k + i) rfl hM.l3 row.2.2 ?_
          conv => whnf
          refine hk _ _ _ _ (k_M_told_54 rfl (c_mexp tw.2.2.2.2 (by omega)) (fun u hu => ?_))
          subst hu
          show J g (d + 1) 90 57 _ _ σ _
          refine jm_run ok_M_told [37] 90 (fun kk hk => ?_)
          conv => whnf
          rw [nI_1]
          exact hk _ _ _ _ (ih (v + 1) (by omega))
      refine jm_run ok_M_told [37] 90 (fun kk hk => ?_)
      conv => whnf
      refine b_z (b := true) rfl (fun h => by cases h) (fun _ => ?_)
      conv => whnf
      refine b_lt (a := i) (b := 0) rfl rfl (fun h => by omega) (fun _ => ?_)
      conv => whnf
      refine jg hM.size ?_
      conv => whnf
      refine ja rfl hM.l4 hP.1 ?_
      conv => whnf
      refine b_lt (a := i) rfl rfl (fun _ => ?_) (fun h => by omega)
      conv => whnf
      rw [ix k i]
      exact hk _ _ _ _ (loop 4 0 rfl)
    · rw [if_neg (fun q => hy q.2)]
      refine jm_run ok_M_told [] 90 (fun kk hk => ?_)
      conv => whnf
      refine b_z (b := true) rfl (fun h => by cases h) (fun _ => ?_)
      conv => whnf
      refine ⟨fun h1 => ?_, fun h1 => ?_⟩
      · conv => whnf
        exact hk _ _ _ _ (r_M_told_22 (jMd_same hR))
      · conv => whnf
        refine jg hM.size ?_
        conv => whnf
        refine ja rfl hM.l4 hP.1 ?_
        conv => whnf
        refine ⟨fun h2 => ?_, fun h2 => ?_⟩
        · have e1 : ¬ y.toInt < (0 : Int32).toInt := fun q => h1 (Int32.lt_iff_toInt_lt.mpr q)
          have e2 := Int32.lt_iff_toInt_lt.mp h2
          rw [nI_toInt (by omega)] at e2
          have e3 : (0 : Int32).toInt = 0 := rfl
          exact absurd ⟨by omega, e2⟩ hy
        · conv => whnf
          exact hk _ _ _ _ (r_M_told_22 (jMd_same hR))
/-- a copy to a place -/
theorem mgive {T : Nat → sp_P} {a r : Nat} (hR : MR g σ m S) (hG : GS S) (hS : MS σ.1 m T) (hT : MT T S) (ha : a < 372) (hr : r < 40) (har : a ≠ r) : J g d 84 0 [some (aR 6 m), some (aI (nI a)), some (aI (nI r)), none] [] σ (fun u => ∃ f, f (m + 4) r = nI (T a).length ∧ (∀ x, jMd g σ m x (sp_setP S r (T a)) ((f, σ.2), .inl (some (aI x)))) ∧ u = ((f, σ.2), .inl none)) :=
  J_mono (c_mcopy hR.1 hS ha (by omega) har) (fun u hu => by
    obtain ⟨f, hf, hS2, hu⟩ := hu
    refine ⟨f, ?_, fun x => jMd_mk hR.1 (MF_fr (S := S) hR.2.1 (fun k _ => congrFun (hf m (by omega)) k)) (MD_fr (S := S) hR.2.2.1 (hf _ (by omega))) hS2 (MT_set hG hT hr) (fun q hq => hf q (by omega)), hu⟩
    have := hS2.sz (p := r) (by omega)
    rw [tU_at] at this
    exact this)
theorem c_melement {x y : Int32} (hR : MR g σ m S) (hG : GS S) : J g (d + 1) 120 0 [some (aR 6 m), some (aI x), some (aI y)] [] σ (jMd g σ m (op_element S x y).1 (op_element S x y).2) := by
  have hM := hR.1
  obtain ⟨T, hS, hT⟩ := hR.2.2.2
  have hF := hR.2.1
  have e0 : (0 : Int32).toInt = 0 := rfl
  unfold op_element
  cases hb : hB S with
  | false =>
    rw [if_neg (by decide)]
    have h9 : σ.1 m 9 = sp_bi false := by rw [hF.2.2.2.2.1, hb]
    refine jm_run ok_M_element [] 90 (fun kk hk => ?_)
    conv => whnf
    refine b_nz h9 (fun h => by cases h) (fun _ => ?_)
    conv => whnf
    exact hk _ _ _ _ (r_M_element_9 (jMd_same hR))
  | true =>
    rw [if_pos rfl]
    have h9 : σ.1 m 9 = sp_bi true := by rw [hF.2.2.2.2.1, hb]
    have h8 := hF.2.2.2.2.2.2 hb
    have hl24 := hG.el24 hb
    cases hx : sp_ie (hel S).length x with
    | false =>
      rw [if_neg (fun q => by cases q.1)]
      have hx := of_decide_eq_false hx
      refine jm_run ok_M_element [] 90 (fun kk hk => ?_)
      conv => whnf
      refine b_nz h9 (fun _ => ?_) (fun h => by cases h)
      conv => whnf
      refine ⟨fun h1 => ?_, fun h1 => ?_⟩
      · conv => whnf
        exact hk _ _ _ _ (r_M_element_30 (jMd_same hR))
      · have q1 : ¬ x.toInt < (0 : Int32).toInt := fun q => h1 (Int32.lt_iff_toInt_lt.mpr q)
        conv => whnf
        rw [h8]
        refine ⟨fun h2 => ?_, fun h2 => ?_⟩
        · conv => whnf
          exact hk _ _ _ _ (r_M_element_30 (jMd_same hR))
        · have q2 : ¬ (nI (hel S).length).toInt ≤ x.toInt := fun q => h2 (Int32.le_iff_toInt_le.mpr q)
          rw [nI_toInt (by omega)] at q2
          exact absurd ⟨by omega, by omega⟩ hx
    | true =>
      obtain ⟨i, hi, rfl⟩ := sp_ie_t (by omega) hx
      rw [nI_clamp (by omega)]
      refine jm_run ok_M_element [] 90 (fun kk hk => ?_)
      conv => whnf
      refine b_nz h9 (fun _ => ?_) (fun h => by cases h)
      conv => whnf
      refine b_lt (a := i) (b := 0) rfl rfl (fun h => by omega) (fun _ => ?_)
      conv => whnf
      refine b_le h8 rfl (fun h => by omega) (fun _ => ?_)
      conv => whnf
      refine hk _ _ _ _ (k_M_element_23 rfl c_misPlace (fun u hu => ?_))
      subst hu
      show J g (d + 1) 120 26 _ _ σ _
      cases hy : sp_ip y with
      | false =>
        rw [if_neg (fun q => by cases q.2)]
        refine jm_run ok_M_element [] 90 (fun kk hk => ?_)
        conv => whnf
        refine b_nz (b := false) rfl (fun h => by cases h) (fun _ => ?_)
        conv => whnf
        exact hk _ _ _ _ (r_M_element_30 (jMd_same hR))
      | true =>
        rw [if_pos ⟨rfl, rfl⟩]
        obtain ⟨r, hr40, rfl⟩ := sp_ip_t hy
        rw [nI_clamp (by omega)]
        have gi : (hel S)[i]? = some (hel S)[i] := List.getElem?_eq_getElem hi
        rw [sp_at0_at gi]
        have hE := (hT.2.2.1 hb i _ gi).1
        refine jm_run ok_M_element [] 90 (fun kk hk => ?_)
        conv => whnf
        refine b_nz (b := true) rfl (fun _ => ?_) (fun h => by cases h)
        conv => whnf
        rw [show (50 : Int32) + nI i = nI (50 + i) from nI_add 50 i]
        refine hk _ _ _ _ (k_M_element_37 rfl (mgive hR hG hS hT (a := 50 + i) (r := r) (by omega) hr40 (by omega)) (fun u hu => ?_))
        obtain ⟨f, hf, hj, hu⟩ := hu
        subst hu
        rw [hE] at hf hj
        show J g (d + 1) 120 40 _ _ (f, σ.2) _
        refine jm_run ok_M_element [] 90 (fun kk hk => ?_)
        conv => whnf
        refine jg hM.size ?_
        conv => whnf
        refine ja rfl hM.l4 hf ?_
        conv => whnf
        exact hk _ _ _ _ (r_M_element_46 (hj _))
theorem c_mshare {x z y : Int32} (hR : MR g σ m S) (hG : GS S) : J g (d + 1) 121 0 [some (aR 6 m), some (aI x), some (aI z), some (aI y)] [] σ (jMd g σ m (op_share S x z y).1 (op_share S x z y).2) := by
  have hM := hR.1
  obtain ⟨T, hS, hT⟩ := hR.2.2.2
  have hF := hR.2.1
  have e0 : (0 : Int32).toInt = 0 := rfl
  have hgl := hG.2.2.2.1
  unfold op_share
  cases hb : hB S with
  | false =>
    rw [if_neg (by decide)]
    have h9 : σ.1 m 9 = sp_bi false := by rw [hF.2.2.2.2.1, hb]
    refine jm_run ok_M_share [] 90 (fun kk hk => ?_)
    conv => whnf
    refine b_nz h9 (fun h => by cases h) (fun _ => ?_)
    conv => whnf
    exact hk _ _ _ _ (r_M_share_9 (jMd_same hR))
  | true =>
    rw [if_pos rfl]
    have h9 : σ.1 m 9 = sp_bi true := by rw [hF.2.2.2.2.1, hb]
    have h8 := hF.2.2.2.2.2.2 hb
    have hl24 := hG.el24 hb
    cases hx : sp_ie (hel S).length x with
    | false =>
      rw [if_neg (fun q => by cases q.1)]
      have hx := of_decide_eq_false hx
      refine jm_run ok_M_share [] 90 (fun kk hk => ?_)
      conv => whnf
      refine b_nz h9 (fun _ => ?_) (fun h => by cases h)
      conv => whnf
      refine ⟨fun h1 => ?_, fun h1 => ?_⟩
      · conv => whnf
        exact hk _ _ _ _ (r_M_share_42 (jMd_same hR))
      · have q1 : ¬ x.toInt < (0 : Int32).toInt := fun q => h1 (Int32.lt_iff_toInt_lt.mpr q)
        conv => whnf
        rw [h8]
        refine ⟨fun h2 => ?_, fun h2 => ?_⟩
        · conv => whnf
          exact hk _ _ _ _ (r_M_share_42 (jMd_same hR))
        · have q2 : ¬ (nI (hel S).length).toInt ≤ x.toInt := fun q => h2 (Int32.le_iff_toInt_le.mpr q)
          rw [nI_toInt (by omega)] at q2
          exact absurd ⟨by omega, by omega⟩ hx
    | true =>
      obtain ⟨i, hi, rfl⟩ := sp_ie_t (by omega) hx
      rw [nI_clamp (n := i) (by omega)]
      cases hz : sp_ie (hgn S).length z with
      | false =>
        rw [if_neg (fun q => by cases q.2.1)]
        have hz := of_decide_eq_false hz
        refine jm_run ok_M_share [] 90 (fun kk hk => ?_)
        conv => whnf
        refine b_nz h9 (fun _ => ?_) (fun h => by cases h)
        conv => whnf
        refine b_lt (a := i) (b := 0) rfl rfl (fun h => by omega) (fun _ => ?_)
        conv => whnf
        refine b_le h8 rfl (fun h => by omega) (fun _ => ?_)
        conv => whnf
        refine ⟨fun h1 => ?_, fun h1 => ?_⟩
        · conv => whnf
          exact hk _ _ _ _ (r_M_share_42 (jMd_same hR))
        · have q1 : ¬ z.toInt < (0 : Int32).toInt := fun q => h1 (Int32.lt_iff_toInt_lt.mpr q)
          conv => whnf
          rw [hF.2.2.2.1]
          refine ⟨fun h2 => ?_, fun h2 => ?_⟩
          · conv => whnf
            exact hk _ _ _ _ (r_M_share_42 (jMd_same hR))
          · have q2 : ¬ (nI (hgn S).length).toInt ≤ z.toInt := fun q => h2 (Int32.le_iff_toInt_le.mpr q)
            rw [nI_toInt (by omega)] at q2
            exact absurd ⟨by omega, by omega⟩ hz
      | true =>
        obtain ⟨k, hk8, rfl⟩ := sp_ie_t (by omega) hz
        rw [nI_clamp (n := k) (by omega)]
        refine jm_run ok_M_share [] 90 (fun kk hk => ?_)
        conv => whnf
        refine b_nz h9 (fun _ => ?_) (fun h => by cases h)
        conv => whnf
        refine b_lt (a := i) (b := 0) rfl rfl (fun h => by omega) (fun _ => ?_)
        conv => whnf
        refine b_le h8 rfl (fun h => by omega) (fun _ => ?_)
        conv => whnf
        refine b_lt (a := k) (b := 0) rfl rfl (fun h => by omega) (fun _ => ?_)
        conv => whnf
        refine b_le hF.2.2.2.1 rfl (fun h => by omega) (fun _ => ?_)
        conv => whnf
        refine hk _ _ _ _ (k_M_share_35 rfl c_misPlace (fun u hu => ?_))
        subst hu
        show J g (d + 1) 121 38 _ _ σ _
        cases hy : sp_ip y with
        | false =>
          rw [if_neg (fun q => by cases q.2.2)]
          refine jm_run ok_M_share [] 90 (fun kk hk => ?_)
          conv => whnf
          refine b_nz (b := false) rfl (fun h => by cases h) (fun _ => ?_)
          conv => whnf
          exact hk _ _ _ _ (r_M_share_42 (jMd_same hR))
        | true =>
          rw [if_pos ⟨rfl, rfl, rfl⟩]
          obtain ⟨r, hr40, rfl⟩ := sp_ip_t hy
          rw [nI_clamp (by omega)]
          have gi : (hel S)[i]? = some (hel S)[i] := List.getElem?_eq_getElem hi
          rw [sp_at0_at gi]
          have hE := hT.2.2.1 hb i _ gi
          have hk1 : k < (hel S)[i].2.length := by rw [hE.2.1]; exact hk8
          have gk : (hel S)[i].2[k]? = some (hel S)[i].2[k] := List.getElem?_eq_getElem hk1
          have hEk := hE.2.2 k _ gk
          have gD : (hel S)[i].2.getD k [] = (hel S)[i].2[k] := by rw [List.getD_eq_getElem?_getD, gk]; rfl
          rw [gD]
          refine jm_run ok_M_share [] 90 (fun kk hk => ?_)
          conv => whnf
          refine b_nz (b := true) rfl (fun _ => ?_) (fun h => by cases h)
          conv => whnf
          refine hk _ _ _ _ (k_M_share_47 rfl c_mcof (fun u hu => ?_))
          subst hu
          show J g (d + 1) 121 50 _ _ σ _
          refine jm_run ok_M_share [] 90 (fun kk hk => ?_)
          conv => whnf
          refine hk _ _ _ _ (k_M_share_51 rfl (mgive hR hG hS hT (a := 170 + 8 * i + k) (r := r) (by omega) hr40 (by omega)) (fun u hu => ?_))
          obtain ⟨f, hf, hj, hu⟩ := hu
          subst hu
          rw [hEk] at hf hj
          show J g (d + 1) 121 54 _ _ (f, σ.2) _
          refine jm_run ok_M_share [] 90 (fun kk hk => ?_)
          conv => whnf
          refine jg hM.size ?_
          conv => whnf
          refine ja rfl hM.l4 hf ?_
          conv => whnf
          exact hk _ _ _ _ (r_M_share_60 (hj _))
end
