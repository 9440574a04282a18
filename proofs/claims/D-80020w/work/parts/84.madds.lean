/-! THE MODEL: adds, made, taken, isSame -/
section
variable {g : jm_G} {d : Nat} {σ : jm_S} {m : Nat}
theorem c_madds1 {T : Nat → sp_P} {x1 x2 x3 x4 : Int32} {gs : Nat} (hM : ML g σ m) (hT : MS σ.1 m T) (hgs : gs < 372) (h11 : σ.1 m 11 = 1) : J g d 92 0 [some (aR 6 m), some (aI x1), some (aI x2), some (aI x3), some (aI x4), some (aI (nI gs)), none, none, none] [] σ (jV σ) := by
  have h0 := hT gs hgs
  have hl := h0.1
  refine jm_run ok_M_adds [] 90 (fun kk hk => ?_)
  conv => whnf
  refine jg hM.size ?_
  conv => whnf
  refine ja rfl hM.l4 h0.2.1 ?_
  conv => whnf
  refine b_le (b := 0) rfl rfl (fun _ => ?_) (fun _ => ?_)
  · conv => whnf
    exact hk _ _ _ _ (r_M_adds_106 rfl)
  · conv => whnf
    refine b_nz (b := true) h11 (fun _ => ?_) (fun h => by cases h)
    conv => whnf
    exact hk _ _ _ _ (r_M_adds_106 rfl)
theorem c_madds {T : Nat → sp_P} {fs gs j n : Nat} {A B : Int} {mo : sp_M} (hM : ML g σ m) (hC : MC σ.1 m n j) (hT : MS σ.1 m T) (hfs : fs < 372) (hgs : gs < 372) (hne : gs ≠ fs) (hw : sp_pw (T fs)) (hv : HVp n (T fs)) (hgw : sp_pw (T gs)) (hgv : HVp n (T gs)) (hc : sp_cf A B) (hm : sp_ok mo) (hmv : HV n mo) (h11 : σ.1 m 11 = 0) :
    J g (d + 4) 92 0 [some (aR 6 m), some (aI (nI fs)), some (aI (sp_i A)), some (aI (sp_i B)), some (aI (sp_d mo)), some (aI (nI gs)), none, none, none] [] σ (jP σ m T fs (sp_plus j A B mo (T fs) (T gs))) := by
  have hgl := hgw.1
  have gsl : ∀ (f : Nat → Nat → Int32) (l : sp_P), MS f m (tU T fs l) → MP f m gs (T gs) := fun f l h => by
    have := (h gs hgs).2
    rw [tU_ne hne] at this
    exact this
  have bad : ∀ (f : Nat → Nat → Int32) (l : sp_P) (k : Nat) (z7 z8 : Option jm_V), k < 100 → FM σ m f → MS f m (tU T fs l) → f m 11 = 1 → sp_plus j A B mo (T fs) (T gs) = none → J g (d + 4) 92 78 [some (aR 6 m), some (aI (nI fs)), some (aI (sp_i A)), some (aI (sp_i B)), some (aI (sp_d mo)), some (aI (nI gs)), some (aI (nI k)), z7, z8] [] (f, σ.2) (jP σ m T fs (sp_plus j A B mo (T fs) (T gs))) := by
    intro f l k z7 z8 hk100 hf hS f11 hO
    have hend : jP σ m T fs (sp_plus j A B mo (T fs) (T gs)) ((f, σ.2), .inl none) := ⟨f, l, hf, hS, Or.inr ⟨hO, f11⟩, rfl⟩
    refine jm_run ok_M_adds [] 90 (fun kk hk => ?_)
    conv => whnf
    refine b_nz (b := true) f11 (fun _ => ?_) (fun h => by cases h)
    conv => whnf
    refine jg hM.size ?_
    conv => whnf
    refine ja rfl hM.l4 (gsl f l hS).1 ?_
    conv => whnf
    rw [nI_1]
    refine b_le (b := k + 1) rfl rfl (fun _ => ?_) (fun _ => ?_)
    · conv => whnf
      exact hk _ _ _ _ (r_M_adds_106 hend)
    · conv => whnf
      refine b_nz (b := true) f11 (fun _ => ?_) (fun h => by cases h)
      conv => whnf
      exact hk _ _ _ _ (r_M_adds_106 hend)
  have loop : ∀ (r : sp_P) (k : Nat), (T gs).drop k = r → k ≤ (T gs).length → ∀ (f : Nat → Nat → Int32) (l : sp_P) (z7 z8 : Option jm_V), FM σ m f → MS f m (tU T fs l) → f m 11 = 0 → sp_pw l → HVp n l → sp_plus j A B mo (T fs) (T gs) = sp_plus j A B mo l r →
      J g (d + 4) 92 3 [some (aR 6 m), some (aI (nI fs)), some (aI (sp_i A)), some (aI (sp_i B)), some (aI (sp_d mo)), some (aI (nI gs)), some (aI (nI k)), z7, z8] [] (f, σ.2) (jP σ m T fs (sp_plus j A B mo (T fs) (T gs))) := by
    intro r
    induction r with
    | nil =>
      intro k hk0 hkl f l z7 z8 hf hS f11 lw lv hO
      have hi2 : (T gs).length ≤ k := List.drop_eq_nil_iff.mp hk0
      have hO : _ = some l := hO
      refine jm_run ok_M_adds [3] 90 (fun kk hk => ?_)
      conv => whnf
      refine jg hM.size ?_
      conv => whnf
      refine ja rfl hM.l4 (gsl f l hS).1 ?_
      conv => whnf
      refine b_le rfl rfl (fun _ => ?_) (fun h => by omega)
      conv => whnf
      exact hk _ _ _ _ (r_M_adds_106 ⟨f, l, hf, hS, Or.inl ⟨hO, f11⟩, rfl⟩)
    | cons t r ih =>
      intro k hk0 hkl f l z7 z8 hf hS f11 lw lv hO
      have hti : (T gs)[k]? = some t := by rw [← Nat.add_zero k, ← List.getElem?_drop, hk0]; rfl
      have hi2 : k < (T gs).length := (List.getElem?_eq_some_iff.mp hti).1
      have hdr : (T gs).drop (k + 1) = r := by rw [← List.drop_drop, hk0]; rfl
      have tw := sp_pw_at hgw hti
      have tv := hgv t (List.mem_of_getElem? hti)
      have row := (gsl f l hS).2 _ _ hti
      have hCf := hf.mc hC
      rw [sp_plus] at hO
      unfold sp_one at hO
      refine jm_run ok_M_adds [3] 90 (fun kk hk => ?_)
      conv => whnf
      refine jg hM.size ?_
      conv => whnf
      refine ja rfl hM.l4 (gsl f l hS).1 ?_
      conv => whnf
      refine b_le rfl rfl (fun h => by omega) (fun _ => ?_)
      conv => whnf
      refine b_nz (b := false) f11 (fun h => by cases h) (fun _ => ?_)
      conv => whnf
      rw [ix]
      refine jg hM.mono ?_
      conv => whnf
      refine ja rfl hM.l3 row.2.2 ?_
      conv => whnf
      refine hk _ _ _ _ (k_M_adds_42 rfl (c_mproduct (σ := (f, σ.2)) hm tw.2.2.2.2 hmv tv hCf.1 hCf.2.2.1 f11) (fun u hu => ?_))
      obtain ⟨f1, hf1, f111, hu⟩ := hu
      subst hu
      have hS1 := hf1.ms (σ := (f, σ.2)) hS
      have hfm1 := hf.trans hf1.fm
      cases hfit : sp_fit mo t.2.2 with
      | false =>
        rw [hfit] at hO f111
        have hO : _ = none := hO
        show J g (d + 4) 92 45 _ _ (f1, σ.2) _
        refine jm_run ok_M_adds [78] 90 (fun kk hk => ?_)
        conv => whnf
        refine b_nz (b := true) f111 (fun _ => ?_) (fun h => by cases h)
        conv => whnf
        exact hk _ _ _ _ (bad f1 l k _ _ (by omega) hfm1 hS1 f111 hO)
      | true =>
        rw [hfit, if_pos rfl] at hO
        rw [hfit] at f111
        have row1 := (gsl f1 l hS1).2 _ _ hti
        show J g (d + 4) 92 45 _ [aI (sp_d (sp_mm mo t.2.2))] (f1, σ.2) _
        have bA := hc.2.1
        have bB := hc.2.2
        have tb := tw.2
        refine jm_run ok_M_adds [] 90 (fun kk hk => ?_)
        conv => whnf
        refine b_nz (b := false) f111 (fun h => by cases h) (fun _ => ?_)
        conv => whnf
        refine jg hM.num ?_
        conv => whnf
        refine ja rfl hM.l1 row1.1 ?_
        conv => whnf
        refine jg hM.den ?_
        conv => whnf
        refine ja rfl hM.l2 row1.2.1 ?_
        conv => whnf
        rw [sp_il (by omega), sp_il (by omega), sp_il (by omega), sp_il (by omega)]
        refine hk _ _ _ _ (k_M_adds_75 rfl (c_mmult (σ := (f1, σ.2)) bA bB tb.1 ⟨tb.2.1, tb.2.2.1⟩ f111) (fun u hu => ?_))
        obtain ⟨f2, hf2, h3, hu⟩ := hu
        subst hu
        have hS2 := hf2.ms (σ := (f1, σ.2)) hS1
        have hfm2 := hfm1.trans hf2.fm
        show J g (d + 4) 92 78 _ _ (f2, σ.2) _
        rcases h3 with ⟨rr, hrr, f211, f216, f217⟩ | ⟨hnone, f211⟩
        · rw [hrr] at hO
          have hO : _ = (sp_come j l rr.1 rr.2 (sp_mm mo t.2.2)).bind (fun p' => sp_plus j A B mo p' r) := hO
          have rb := sp_fr_b (Int.mul_ne_zero (by omega) (by omega)) hrr
          have n0 : A * t.1 ≠ 0 := Int.mul_ne_zero hc.1 tw.1
          have r0 : rr.1 ≠ 0 := fun q => n0 (rb.2.2.2.mp q)
          have hok2 := sp_fit_ok hfit
          refine jm_run ok_M_adds [] 90 (fun kk hk => ?_)
          conv => whnf
          refine b_nz (b := false) f211 (fun h => by cases h) (fun _ => ?_)
          conv => whnf
          rw [show (f2, σ.2).1 m 16 = sp_i rr.1 from f216, show (f2, σ.2).1 m 17 = sp_i rr.2 from f217]
          refine hk _ _ _ _ (k_M_adds_97 rfl (c_mcomes (σ := (f2, σ.2)) hM (hfm2.mc hC) hS2 hfs (by rw [tU_at]; exact lw) (by rw [tU_at]; exact lv) rb.1 ⟨rb.2.1, rb.2.2.1⟩ hok2 (HV_mm hmv tv) f211) (fun u hu => ?_))
          obtain ⟨f3, l3, hf3, hS3, h4, hu⟩ := hu
          subst hu
          rw [tU_tU] at hS3
          rw [tU_at] at h4
          have hfm3 := hfm2.trans hf3
          show J g (d + 4) 92 100 _ _ (f3, σ.2) _
          rcases h4 with ⟨h4, f311⟩ | ⟨h4, f311⟩
          · rw [h4] at hO
            refine jm_run ok_M_adds [3] 90 (fun kk hk => ?_)
            conv => whnf
            rw [nI_1]
            exact hk _ _ _ _ (ih (k + 1) hdr (by omega) f3 l3 _ _ hfm3 hS3 f311 (sp_come_w lw ⟨r0, rb.1, rb.2.1, rb.2.2.1, hok2⟩ h4) (HVp_come lv (HV_mm hmv tv) h4) hO)
          · rw [h4] at hO
            have hO : _ = none := hO
            have hend : jP σ m T fs (sp_plus j A B mo (T fs) (T gs)) ((f3, σ.2), .inl none) := ⟨f3, l3, hfm3, hS3, Or.inr ⟨hO, f311⟩, rfl⟩
            refine jm_run ok_M_adds [] 90 (fun kk hk => ?_)
            conv => whnf
            rw [nI_1]
            refine jg hM.size ?_
            conv => whnf
            refine ja rfl hM.l4 (gsl f3 l3 hS3).1 ?_
            conv => whnf
            refine b_le (b := k + 1) rfl rfl (fun _ => ?_) (fun _ => ?_)
            · conv => whnf
              exact hk _ _ _ _ (r_M_adds_106 hend)
            · conv => whnf
              refine b_nz (b := true) f311 (fun _ => ?_) (fun h => by cases h)
              conv => whnf
              exact hk _ _ _ _ (r_M_adds_106 hend)
        · rw [hnone] at hO
          have hO : _ = none := hO
          exact bad f2 l k _ _ (by omega) hfm2 hS2 f211 hO
  refine jm_run ok_M_adds [3] 90 (fun kk hk => ?_)
  conv => whnf
  exact hk _ _ _ _ (loop (T gs) 0 rfl (Nat.zero_le _) σ.1 (T fs) _ _ (FM.refl σ m) (by rw [tU_self]; exact hT) h11 hw hv rfl)
theorem c_mtaken {T : Nat → sp_P} {a b : Nat} (hM : ML g σ m) (hT : MS σ.1 m T) (ha : a < 372) (hb : b < 372) (hab : a ≠ b) (h11 : σ.1 m 11 = 0) : J g (d + 1) 87 0 [some (aR 6 m), some (aI (nI a)), some (aI (nI b))] [] σ (fun u => ∃ f, (∀ q, ¬ (m + 1 ≤ q ∧ q ≤ m + 4) → f q = σ.1 q) ∧ MS f m (tU T b (T a)) ∧ u = ((f, σ.2), .inl (some (aI (nI (T a).length))))) := by
  refine jm_run ok_M_taken [] 90 (fun kk hk => ?_)
  conv => whnf
  refine b_z (b := false) h11 (fun _ => ?_) (fun h => by cases h)
  conv => whnf
  refine hk _ _ _ _ (k_M_taken_13 rfl (c_mcopy hM hT ha hb hab) (fun u hu => ?_))
  obtain ⟨f, hf, hS, hu⟩ := hu
  subst hu
  have hb2 := (hS b hb).2.1
  rw [tU_at] at hb2
  show J g (d + 1) 87 16 _ _ (f, σ.2) _
  refine jm_run ok_M_taken [] 90 (fun kk hk => ?_)
  conv => whnf
  refine jg hM.size ?_
  conv => whnf
  refine ja rfl hM.l4 hb2 ?_
  conv => whnf
  exact hk _ _ _ _ (r_M_taken_22 ⟨f, hf, hS, rfl⟩)
theorem c_mtaken1 {x y : Int32} (h11 : σ.1 m 11 = 1) : J g d 87 0 [some (aR 6 m), some (aI x), some (aI y)] [] σ (jR σ (aI (-7))) := by
  refine jm_run ok_M_taken [] 90 (fun kk hk => ?_)
  conv => whnf
  refine b_z (b := true) h11 (fun h => by cases h) (fun _ => ?_)
  conv => whnf
  exact hk _ _ _ _ (r_M_taken_9 rfl)
theorem c_mmade {T : Nat → sp_P} {a b c j n : Nat} (hM : ML g σ m) (hC : MC σ.1 m n j) (hT : MS σ.1 m T) (ha : a < 372) (hb : b < 372) (hcc : c < 372) (hac : a ≠ c) (hbc : b ≠ c) (haw : sp_pw (T a)) (hav : HVp n (T a)) (hbw : sp_pw (T b)) (hbv : HVp n (T b)) (h11 : σ.1 m 11 = 0) :
    J g (d + 5) 96 0 [some (aR 6 m), some (aI (nI a)), some (aI (nI b)), some (aI (nI c)), none] [] σ (jP σ m T c (sp_mulG j (T b) [] (T a))) := by
  have hal := haw.1
  have asl : ∀ (f : Nat → Nat → Int32) (l : sp_P), MS f m (tU T c l) → MP f m a (T a) := fun f l h => by
    have := (h a ha).2
    rw [tU_ne hac] at this
    exact this
  have loop : ∀ (r : sp_P) (k : Nat), (T a).drop k = r → k ≤ (T a).length → ∀ (f : Nat → Nat → Int32) (l : sp_P), FM σ m f → MS f m (tU T c l) → f m 11 = 0 → sp_pw l → HVp n l → sp_mulG j (T b) [] (T a) = sp_mulG j (T b) l r →
      J g (d + 5) 96 10 [some (aR 6 m), some (aI (nI a)), some (aI (nI b)), some (aI (nI c)), some (aI (nI k))] [] (f, σ.2) (jP σ m T c (sp_mulG j (T b) [] (T a))) := by
    intro r
    induction r with
    | nil =>
      intro k hk0 hkl f l hf hS f11 lw lv hO
      have hi2 : (T a).length ≤ k := List.drop_eq_nil_iff.mp hk0
      have hO : _ = some l := hO
      refine jm_run ok_M_made [10] 90 (fun kk hk => ?_)
      conv => whnf
      refine jg hM.size ?_
      conv => whnf
      refine ja rfl hM.l4 (asl f l hS).1 ?_
      conv => whnf
      refine b_le rfl rfl (fun _ => ?_) (fun h => by omega)
      conv => whnf
      exact hk _ _ _ _ (r_M_made_76 ⟨f, l, hf, hS, Or.inl ⟨hO, f11⟩, rfl⟩)
    | cons t r ih =>
      intro k hk0 hkl f l hf hS f11 lw lv hO
      have hti : (T a)[k]? = some t := by rw [← Nat.add_zero k, ← List.getElem?_drop, hk0]; rfl
      have hi2 : k < (T a).length := (List.getElem?_eq_some_iff.mp hti).1
      have hdr : (T a).drop (k + 1) = r := by rw [← List.drop_drop, hk0]; rfl
      have tw := sp_pw_at haw hti
      have tv := hav t (List.mem_of_getElem? hti)
      have row := (asl f l hS).2 _ _ hti
      rw [sp_mulG] at hO
      refine jm_run ok_M_made [10] 90 (fun kk hk => ?_)
      conv => whnf
      refine jg hM.size ?_
      conv => whnf
      refine ja rfl hM.l4 (asl f l hS).1 ?_
      conv => whnf
      refine b_le rfl rfl (fun h => by omega) (fun _ => ?_)
      conv => whnf
      refine b_nz (b := false) f11 (fun h => by cases h) (fun _ => ?_)
      conv => whnf
      refine jg hM.num ?_
      conv => whnf
      refine ja (ix a k) hM.l1 row.1 ?_
      conv => whnf
      refine jg hM.den ?_
      conv => whnf
      refine ja (ix a k) hM.l2 row.2.1 ?_
      conv => whnf
      refine jg hM.mono ?_
      conv => whnf
      refine ja (ix a k) hM.l3 row.2.2 ?_
      conv => whnf
      refine hk _ _ _ _ (k_M_made_67 rfl (c_madds (σ := (f, σ.2)) hM (hf.mc hC) hS hcc hb hbc (by rw [tU_at]; exact lw) (by rw [tU_at]; exact lv) (by rw [tU_ne hbc]; exact hbw) (by rw [tU_ne hbc]; exact hbv) (sp_tw_cf tw) tw.2.2.2.2 tv f11) (fun u hu => ?_))
      obtain ⟨f3, l3, hf3, hS3, h4, hu⟩ := hu
      subst hu
      rw [tU_tU] at hS3
      rw [tU_at, tU_ne hbc] at h4
      have hfm3 := hf.trans hf3
      show J g (d + 5) 96 70 _ _ (f3, σ.2) _
      rcases h4 with ⟨h4, f311⟩ | ⟨h4, f311⟩
      · rw [h4] at hO
        refine jm_run ok_M_made [10] 90 (fun kk hk => ?_)
        conv => whnf
        rw [nI_1]
        exact hk _ _ _ _ (ih (k + 1) hdr (by omega) f3 l3 hfm3 hS3 f311 (sp_plus_w (sp_tw_cf tw) lw hbw.2 h4) (HVp_plus tv lv hbv h4) hO)
      · rw [h4] at hO
        have hO : _ = none := hO
        have hend : jP σ m T c (sp_mulG j (T b) [] (T a)) ((f3, σ.2), .inl none) := ⟨f3, l3, hfm3, hS3, Or.inr ⟨hO, f311⟩, rfl⟩
        refine jm_run ok_M_made [] 90 (fun kk hk => ?_)
        conv => whnf
        rw [nI_1]
        refine jg hM.size ?_
        conv => whnf
        refine ja rfl hM.l4 (asl f3 l3 hS3).1 ?_
        conv => whnf
        refine b_le (b := k + 1) rfl rfl (fun _ => ?_) (fun _ => ?_)
        · conv => whnf
          exact hk _ _ _ _ (r_M_made_76 hend)
        · conv => whnf
          refine b_nz (b := true) f311 (fun _ => ?_) (fun h => by cases h)
          conv => whnf
          exact hk _ _ _ _ (r_M_made_76 hend)
  have hst : jm_wi σ (m + 4) c 0 = ((jm_wi σ (m + 4) c 0).1, σ.2) := rfl
  refine jm_run ok_M_made [10] 90 (fun kk hk => ?_)
  conv => whnf
  refine jg hM.size ?_
  conv => whnf
  refine jw rfl hM.l4 ?_
  conv => whnf
  rw [hst]
  exact hk _ _ _ _ (loop (T a) 0 rfl (Nat.zero_le _) _ [] ⟨fun q hq => jm_wi_q (by omega), fun k _ _ _ => by rw [jm_wi_q (by omega)]⟩ (MS_nil (f := σ.1) (ρ := σ.2) hT) (by rw [jm_wi_q (by omega)]; exact h11) sp_pw_nil (HVp_nil n) rfl)
theorem c_misSame {T : Nat → sp_P} {a b : Nat} (hM : ML g σ m) (hT : MS σ.1 m T) (ha : a < 372) (hb : b < 372) (haw : sp_pw (T a)) (hbw : sp_pw (T b)) : J g d 98 0 [some (aR 6 m), some (aI (nI a)), some (aI (nI b)), none] [] σ (jR σ (aI (sp_bi (sp_same (T a) (T b))))) := by
  have hA := (hT a ha).2
  have hB := (hT b hb).2
  have hal := haw.1
  have hbl := hbw.1
  generalize T a = p at hA haw hal
  generalize T b = q at hB hbw hbl
  have no : p ≠ q → sp_bi false = sp_bi (sp_same p q) := fun h => congrArg sp_bi (sp_same_f h)
  by_cases hlen : p.length = q.length
  · have loop : ∀ n k, k + n = p.length → (∀ i, i < k → p[i]? = q[i]?) → J g d 98 19 [some (aR 6 m), some (aI (nI a)), some (aI (nI b)), some (aI (nI k))] [] σ (jR σ (aI (sp_bi (sp_same p q)))) := by
      intro n
      induction n with
      | zero =>
        intro k hkn he
        have hpq : p = q := List.ext_getElem? (fun i => by
          by_cases hi : i < k
          · exact he i hi
          · rw [List.getElem?_eq_none (by omega), List.getElem?_eq_none (by omega)])
        rw [(sp_same_iff p q).mpr hpq]
        refine jm_run ok_M_isSame [19] 90 (fun kk hk => ?_)
        conv => whnf
        refine jg hM.size ?_
        conv => whnf
        refine ja rfl hM.l4 hA.1 ?_
        conv => whnf
        refine b_le rfl rfl (fun _ => ?_) (fun h => by omega)
        conv => whnf
        exact hk _ _ _ _ (r_M_isSame_113 (Or.inr rfl) rfl)
      | succ n ih =>
        intro k hkn he
        have gp : p[k]? = some p[k] := List.getElem?_eq_getElem (by omega)
        have gq : q[k]? = some q[k] := List.getElem?_eq_getElem (by omega)
        have rp := hA.2 _ _ gp
        have rq := hB.2 _ _ gq
        have wp := sp_pw_at haw gp
        have wq := sp_pw_at hbw gq
        have hpq : p = q → p[k] = q[k] := fun h => Option.some.inj (gp.symm.trans ((congrArg (fun (l : sp_P) => l[k]?) h).trans gq))
        generalize p[k] = s at gp rp wp hpq
        generalize q[k] = t at gq rq wq hpq
        have b1 := sp_5_lt wp.2.2.2.2
        have b2 := sp_5_lt wq.2.2.2.2
        have sb := wp.2
        have tb := wq.2
        have ret : ¬ s = t → J g d 98 104 [some (aR 6 m), some (aI (nI a)), some (aI (nI b)), some (aI (nI k))] [] σ (jR σ (aI (sp_bi (sp_same p q)))) := by
          intro hst
          rw [← no (fun h => hst (hpq h))]
          refine jm_run ok_M_isSame [] 90 (fun kk hk => ?_)
          conv => whnf
          exact hk _ _ _ _ (r_M_isSame_105 (Or.inl rfl) rfl)
        refine jm_run ok_M_isSame [19, 104] 90 (fun kk hk => ?_)
        conv => whnf
        refine jg hM.size ?_
        conv => whnf
        refine ja rfl hM.l4 hA.1 ?_
        conv => whnf
        refine b_le rfl rfl (fun h => by omega) (fun _ => ?_)
        conv => whnf
        refine jg hM.num ?_
        conv => whnf
        refine ja (ix a k) hM.l1 rp.1 ?_
        conv => whnf
        refine jg hM.num ?_
        conv => whnf
        refine ja (ix b k) hM.l1 rq.1 ?_
        conv => whnf
        refine bi_ne rfl rfl (fun h => ?_) (fun h1 => ?_)
        · conv => whnf
          exact hk _ _ _ _ (ret (fun q => h (by rw [q])))
        · conv => whnf
          refine jg hM.den ?_
          conv => whnf
          refine ja (ix a k) hM.l2 rp.2.1 ?_
          conv => whnf
          refine jg hM.den ?_
          conv => whnf
          refine ja (ix b k) hM.l2 rq.2.1 ?_
          conv => whnf
          refine bi_ne rfl rfl (fun h => ?_) (fun h2 => ?_)
          · conv => whnf
            exact hk _ _ _ _ (ret (fun q => h (by rw [q])))
          · conv => whnf
            refine jg hM.mono ?_
            conv => whnf
            refine ja (ix a k) hM.l3 rp.2.2 ?_
            conv => whnf
            refine jg hM.mono ?_
            conv => whnf
            refine ja (ix b k) hM.l3 rq.2.2 ?_
            conv => whnf
            refine b_eq rfl rfl (fun h3 => ?_) (fun h => ?_)
            · have h3 := sp_5_inj wp.2.2.2.2 wq.2.2.2.2 h3
              have hst : s = t := by
                obtain ⟨s1, s2, s3⟩ := s
                obtain ⟨t1, t2, t3⟩ := t
                have e1 : s1 = t1 := h1
                have e2 : s2 = t2 := h2
                have e3 : s3 = t3 := h3
                rw [e1, e2, e3]
              conv => whnf
              rw [nI_1]
              refine hk _ _ _ _ (ih (k + 1) (by omega) (fun i hi => ?_))
              by_cases q : i = k
              · subst q; rw [gp, gq, hst]
              · exact he i (by omega)
            · conv => whnf
              exact hk _ _ _ _ (ret (fun q => h (by rw [q])))
    refine jm_run ok_M_isSame [19] 90 (fun kk hk => ?_)
    conv => whnf
    refine jg hM.size ?_
    conv => whnf
    refine ja rfl hM.l4 hA.1 ?_
    conv => whnf
    refine jg hM.size ?_
    conv => whnf
    refine ja rfl hM.l4 hB.1 ?_
    conv => whnf
    refine b_eq rfl rfl (fun _ => ?_) (fun h => absurd hlen h)
    conv => whnf
    exact hk _ _ _ _ (loop p.length 0 (by omega) (fun i hi => absurd hi (Nat.not_lt_zero _)))
  · rw [← no (fun h => hlen (by rw [h]))]
    refine jm_run ok_M_isSame [19] 90 (fun kk hk => ?_)
    conv => whnf
    refine jg hM.size ?_
    conv => whnf
    refine ja rfl hM.l4 hA.1 ?_
    conv => whnf
    refine jg hM.size ?_
    conv => whnf
    refine ja rfl hM.l4 hB.1 ?_
    conv => whnf
    refine b_eq rfl rfl (fun h => absurd h hlen) (fun _ => ?_)
    conv => whnf
    exact hk _ _ _ _ (r_M_isSame_16 (Or.inl rfl) rfl)
end
