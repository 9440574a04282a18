/-! THE MODEL: lead, cofactor, scaled, monic, waiting pairs -/
/-- an element in the slots -/
def EA5 (T : Nat → sp_P) (base sh i : Nat) (E : sp_E) : Prop := T (base + i) = E.1 ∧ E.2.length = sh ∧ ∀ k p, E.2[k]? = some p → T (170 + 8 * i + k) = p
theorem EA5_fr {T T' : Nat → sp_P} {base sh i : Nat} {E : sp_E} (h : EA5 T base sh i E) (h1 : T' (base + i) = T (base + i)) (h2 : ∀ k, k < sh → T' (170 + 8 * i + k) = T (170 + 8 * i + k)) : EA5 T' base sh i E :=
  ⟨h1.trans h.1, h.2.1, fun k p hp => (h2 k (by have := (List.getElem?_eq_some_iff.mp hp).1; rw [h.2.1] at this; exact this)).trans (h.2.2 k p hp)⟩
theorem set_mid : ∀ (u : sp_P) (t s : sp_T) (r : sp_P), (u ++ t :: r).set u.length s = u ++ s :: r
  | [], t, s, r => rfl
  | x :: u, t, s, r => congrArg (fun l => x :: l) (set_mid u t s r)
section
variable {g : jm_G} {d : Nat} {σ : jm_S} {m : Nat}
theorem c_mlead {T : Nat → sp_P} {p : Nat} (hM : ML g σ m) (hT : MS σ.1 m T) (hp : p < 372) (h0 : T p ≠ []) : J g d 109 0 [some (aR 6 m), some (aI (nI p))] [] σ (jR σ (aI (sp_d (sp_ld (T p))))) := by
  have hP := (hT p hp).2
  generalize T p = l at hP h0
  cases l with
  | nil => exact absurd rfl h0
  | cons t r =>
    have row := hP.2 0 t rfl
    refine jm_run ok_M_lead [] 90 (fun kk hk => ?_)
    conv => whnf
    refine jg hM.mono ?_
    conv => whnf
    refine ja (ix0 p) hM.l3 row.2.2 ?_
    conv => whnf
    exact hk _ _ _ _ (r_M_lead_9 rfl)
theorem c_mcof {e k : Nat} : J g d 104 0 [some (aR 6 m), some (aI (nI e)), some (aI (nI k))] [] σ (jR σ (aI (nI (170 + 8 * e + k)))) := by
  refine jm_run ok_M_cofactor [] 90 (fun kk hk => ?_)
  conv => whnf
  rw [show (8 : Int32) * nI e = nI (8 * e) from pk_mul 8 e, show (170 : Int32) + nI (8 * e) = nI (170 + 8 * e) from nI_add 170 (8 * e), nI_add]
  exact hk _ _ _ _ (r_M_cofactor_10 rfl)
theorem MS_nd {f : Nat → Nat → Int32} {ρ : (Nat → Nat → Nat) × (Nat × Nat)} {T : Nat → sp_P} {p k : Nat} {l : sp_P} {t : sp_T} {X Y : Int} (h : MS f m (tU T p l)) (hp : p < 372) (ht : l[k]? = some t) : MS (jm_wi (jm_wi (f, ρ) (m + 1) (100 * p + k) (sp_i X)) (m + 2) (100 * p + k) (sp_i Y)).1 m (tU T p (l.set k (X, (Y, t.2.2)))) := by
  have hk := (List.getElem?_eq_some_iff.mp ht).1
  have h0 := h p hp
  rw [tU_at] at h0
  rw [← tU_tU T p l]
  refine MS_set h (by rw [List.length_set]; exact h0.1) ⟨?_, fun i s hs => ?_⟩ (fun q _ => by rw [jm_wi_q (by omega), jm_wi_q (by omega)]) (fun r hr i hi => ?_)
  · rw [jm_wi_q (by omega), jm_wi_q (by omega), List.length_set]; exact h0.2.1
  · rw [List.getElem?_set] at hs
    rw [jm_wi_q (show m + 1 ≠ m + 2 by omega), jm_wi_1, jm_wi_1, jm_wi_q (show m + 2 ≠ m + 1 by omega), jm_wi_q (show m + 3 ≠ m + 2 by omega), jm_wi_q (show m + 3 ≠ m + 1 by omega)]
    by_cases hi : k = i
    · subst hi
      rw [if_pos rfl, if_pos hk] at hs
      cases hs
      rw [if_pos ⟨rfl, rfl⟩, if_pos ⟨rfl, rfl⟩]
      exact ⟨rfl, rfl, (h0.2.2 _ _ ht).2.2⟩
    · rw [if_neg hi] at hs
      rw [if_neg (by omega), if_neg (by omega)]
      exact h0.2.2 _ _ hs
  · rw [jm_wi_1, jm_wi_1, if_neg (by omega), if_neg (by omega)]
theorem c_mscaled {T : Nat → sp_P} {p : Nat} {A B : Int} (hM : ML g σ m) (hT : MS σ.1 m T) (hp : p < 372) (hw : sp_pw (T p)) (hc : sp_cf A B) (h11 : σ.1 m 11 = 0) : J g (d + 2) 106 0 [some (aR 6 m), some (aI (nI p)), some (aI (sp_i A)), some (aI (sp_i B)), none] [] σ (jP σ m T p (sp_scale A B (T p))) := by
  have hlen := hw.1
  have loop : ∀ (r u : sp_P) (k : Nat), (∀ t ∈ r, sp_tw t) → u.length = k → k + r.length = (T p).length → ∀ f : Nat → Nat → Int32, FM σ m f → MS f m (tU T p (u ++ r)) → f m 11 = 0 → sp_scale A B (T p) = (sp_scale A B r).map (fun r' => u ++ r') →
      J g (d + 2) 106 3 [some (aR 6 m), some (aI (nI p)), some (aI (sp_i A)), some (aI (sp_i B)), some (aI (nI k))] [] (f, σ.2) (jP σ m T p (sp_scale A B (T p))) := by
    intro r
    induction r with
    | nil =>
      intro u k _ hu hkl f hf hS f11 hO
      have hO : _ = some (u ++ []) := hO
      have h4 := (hS p hp).2.1
      rw [tU_at, List.append_nil, hu] at h4
      refine jm_run ok_M_scaled [3] 90 (fun kk hk => ?_)
      conv => whnf
      refine jg hM.size ?_
      conv => whnf
      refine ja rfl hM.l4 h4 ?_
      conv => whnf
      refine b_le (a := k) (b := k) rfl rfl (fun _ => ?_) (fun h => by omega)
      conv => whnf
      exact hk _ _ _ _ (r_M_scaled_93 ⟨f, _, hf, hS, Or.inl ⟨hO, f11⟩, rfl⟩)
    | cons t r ih =>
      intro u k hr hu hkl f hf hS f11 hO
      have tw := hr t (List.mem_cons_self ..)
      rw [List.length_cons] at hkl
      have hti : (u ++ t :: r)[k]? = some t := by rw [List.getElem?_append_right (by omega), hu, Nat.sub_self]; rfl
      have h0 := (hS p hp).2
      rw [tU_at] at h0
      have row := h0.2 k t hti
      have h4 : f (m + 4) p = nI (k + 1 + r.length) := by rw [h0.1, List.length_append, List.length_cons, hu]; congr 1; omega
      have tb := tw.2
      have cb := hc.2
      rw [sp_scale] at hO
      refine jm_run ok_M_scaled [3] 90 (fun kk hk => ?_)
      conv => whnf
      refine jg hM.size ?_
      conv => whnf
      refine ja rfl hM.l4 h4 ?_
      conv => whnf
      refine b_le (a := k + 1 + r.length) (b := k) rfl rfl (fun h => by omega) (fun _ => ?_)
      conv => whnf
      refine b_nz (b := false) f11 (fun h => by cases h) (fun _ => ?_)
      conv => whnf
      refine jg hM.num ?_
      conv => whnf
      refine ja (ix p k) hM.l1 row.1 ?_
      conv => whnf
      refine jg hM.den ?_
      conv => whnf
      refine ja (ix p k) hM.l2 row.2.1 ?_
      conv => whnf
      rw [sp_il (by omega), sp_il (by omega), sp_il (by omega), sp_il (by omega)]
      refine hk _ _ _ _ (k_M_scaled_52 rfl (c_mmult (σ := (f, σ.2)) tb.1 ⟨tb.2.1, tb.2.2.1⟩ cb.1 cb.2 f11) (fun u' hu' => ?_))
      obtain ⟨f2, hf2, h3, hu'⟩ := hu'
      subst hu'
      have hS2 := hf2.ms (σ := (f, σ.2)) hS
      have hfm2 := hf.trans hf2.fm
      show J g (d + 2) 106 55 _ _ (f2, σ.2) _
      have step : ∀ X Y : Int, f2 m 16 = sp_i X → f2 m 17 = sp_i Y → ∃ f3 : Nat → Nat → Int32, f3 m 11 = f2 m 11 ∧ FM σ m f3 ∧ MS f3 m (tU T p (u ++ (X, (Y, t.2.2)) :: r)) ∧ (J g (d + 2) 106 3 [some (aR 6 m), some (aI (nI p)), some (aI (sp_i A)), some (aI (sp_i B)), some (aI (nI (k + 1)))] [] (f3, σ.2) (jP σ m T p (sp_scale A B (T p))) → J g (d + 2) 106 55 [some (aR 6 m), some (aI (nI p)), some (aI (sp_i A)), some (aI (sp_i B)), some (aI (nI k))] [] (f2, σ.2) (jP σ m T p (sp_scale A B (T p)))) := by
        intro X Y h16 h17
        have v17 : ∀ x i, (jm_wi (f2, σ.2) (m + 1) i x).1 m 17 = sp_i Y := fun x i => (congrFun (jm_wi_q (by omega)) _).trans h17
        have hst : jm_wi (jm_wi (f2, σ.2) (m + 1) (100 * p + k) (sp_i X)) (m + 2) (100 * p + k) (sp_i Y) = ((jm_wi (jm_wi (f2, σ.2) (m + 1) (100 * p + k) (sp_i X)) (m + 2) (100 * p + k) (sp_i Y)).1, σ.2) := rfl
        have hset := MS_nd (ρ := σ.2) (X := X) (Y := Y) hS2 hp hti
        have el : (u ++ t :: r).set k (X, (Y, t.2.2)) = u ++ (X, (Y, t.2.2)) :: r := by
          rw [← hu]; exact set_mid u t _ r
        rw [el] at hset
        refine ⟨(jm_wi (jm_wi (f2, σ.2) (m + 1) (100 * p + k) (sp_i X)) (m + 2) (100 * p + k) (sp_i Y)).1, by rw [jm_wi_q (by omega), jm_wi_q (by omega)], ⟨fun q hq => by rw [jm_wi_q (by omega), jm_wi_q (by omega)]; exact hfm2.1 q hq, fun k' a b c => by rw [jm_wi_q (by omega), jm_wi_q (by omega)]; exact hfm2.2 k' a b c⟩, hset, fun hJ => ?_⟩
        refine jm_run ok_M_scaled [3] 90 (fun kk hk => ?_)
        conv => whnf
        refine jg hM.num ?_
        conv => whnf
        rw [show (f2, σ.2).1 m 16 = sp_i X from h16]
        refine jw (ix p k) hM.l1 ?_
        conv => whnf
        refine jg hM.den ?_
        conv => whnf
        rw [v17]
        refine jw (ix p k) hM.l2 ?_
        conv => whnf
        rw [hst, nI_1]
        exact hk _ _ _ _ hJ
      rcases h3 with ⟨rr, hrr, f211, f216, f217⟩ | ⟨hnone, f211⟩
      · rw [hrr] at hO
        obtain ⟨f3, e11, hfm3, hS3, hJ⟩ := step rr.1 rr.2 f216 f217
        refine hJ ?_
        rw [show u ++ (rr.1, (rr.2, t.2.2)) :: r = (u ++ [(rr.1, (rr.2, t.2.2))]) ++ r by simp] at hS3
        refine ih (u ++ [(rr.1, (rr.2, t.2.2))]) (k + 1) (fun s hs => hr s (List.mem_cons_of_mem _ hs)) (by rw [List.length_append, hu]; rfl) (by omega) f3 hfm3 hS3 (e11.trans f211) ?_
        rw [hO]
        show ((sp_scale A B r).map (fun r' => (rr.1, (rr.2, t.2.2)) :: r')).map (fun r' => u ++ r') = _
        cases sp_scale A B r with
        | none => rfl
        | some r' => show some _ = some _; simp
      · rw [hnone] at hO
        have hO : _ = none := hO
        obtain ⟨f3, e11, hfm3, hS3, hJ⟩ := step (f2 m 16).toInt (f2 m 17).toInt (i32_i _).symm (i32_i _).symm
        refine hJ ?_
        have hend : jP σ m T p (sp_scale A B (T p)) ((f3, σ.2), .inl none) := ⟨f3, _, hfm3, hS3, Or.inr ⟨hO, e11.trans f211⟩, rfl⟩
        have h9 := (hS3 p hp)
        rw [tU_at] at h9
        refine jm_run ok_M_scaled [] 90 (fun kk hk => ?_)
        conv => whnf
        refine jg hM.size ?_
        conv => whnf
        refine ja rfl hM.l4 h9.2.1 ?_
        conv => whnf
        refine b_le (b := k + 1) rfl rfl (fun _ => ?_) (fun _ => ?_) (by have := h9.1; omega)
        · conv => whnf
          exact hk _ _ _ _ (r_M_scaled_93 hend)
        · conv => whnf
          refine b_nz (b := true) (e11.trans f211) (fun _ => ?_) (fun h => by cases h)
          conv => whnf
          exact hk _ _ _ _ (r_M_scaled_93 hend)
  refine jm_run ok_M_scaled [3] 90 (fun kk hk => ?_)
  conv => whnf
  refine hk _ _ _ _ (loop (T p) [] 0 hw.2 rfl (Nat.zero_add _) σ.1 (FM.refl σ m) (by rw [List.nil_append, tU_self]; exact hT) h11 ?_)
  cases sp_scale A B (T p) <;> rfl
/-- how monic ends -/
def jMo (σ : jm_S) (m : Nat) (T : Nat → sp_P) (base sh e : Nat) (o : Option sp_E) : jm_O → Prop := fun u => ∃ f T', FM σ m f ∧ MS f m T' ∧ (∀ q, q ≠ base + e → ¬ (170 + 8 * e ≤ q ∧ q < 170 + 8 * e + sh) → T' q = T q) ∧ ((∃ E', o = some E' ∧ EA5 T' base sh e E' ∧ f m 11 = 0) ∨ (o = none ∧ f m 11 = 1)) ∧ u = ((f, σ.2), .inl none)
theorem c_mmonic {T : Nat → sp_P} {base sh e gs : Nat} {ws : Bool} {E : sp_E} (hM : ML g σ m) (hT : MS σ.1 m T) (h19 : σ.1 m 19 = nI base) (hbase : base = 50 ∨ base = 75) (h7 : σ.1 m 7 = nI gs) (hgs : gs ≤ 8) (h22 : σ.1 m 22 = sp_bi ws) (hsh : sh = cond ws gs 0) (he : e ≤ 24) (hE : EA5 T base sh e E) (hw : sp_ew E) (h0 : E.1 ≠ []) (h11 : σ.1 m 11 = 0) :
    J g (d + 3) 105 0 [some (aR 6 m), some (aI (nI e)), none, none, none, none, none, none] [] σ (jMo σ m T base sh e (sp_mon E)) := by
  have hcf := sp_mf_cf hw.1
  have hhb := sp_hd_b hw.1
  have hbe : base + e < 372 := by omega
  have hP := (hT (base + e) hbe).2
  rw [hE.1] at hP
  have hsh8 : sh ≤ 8 := by subst hsh; cases ws <;> simp <;> omega
  have row : σ.1 (m + 1) (100 * (base + e)) = sp_i (sp_hd E.1).1 ∧ σ.1 (m + 2) (100 * (base + e)) = sp_i (sp_hd E.1).2 := by
    obtain ⟨p, ss⟩ := E
    cases p with
    | nil => exact absurd rfl h0
    | cons t r => have := hP.2 0 t rfl; exact ⟨this.1, this.2.1⟩
  -- the shares
  have loop : ∀ (r : List sp_P) (k : Nat) (ss : List sp_P), E.2.drop k = r → ss.length = k → k ≤ sh → ∀ (f : Nat → Nat → Int32) (T' : Nat → sp_P) (p' : sp_P), FM σ m f → MS f m T' → (∀ q, q ≠ base + e → ¬ (170 + 8 * e ≤ q ∧ q < 170 + 8 * e + k) → T' q = T q) → T' (base + e) = p' → (∀ k' q, ss[k']? = some q → T' (170 + 8 * e + k') = q) → f m 11 = 0 → sp_mon E = (sp_mapS (sp_mf E.1).1 (sp_mf E.1).2 r).map (fun ss' => (p', ss ++ ss')) →
      ∀ z2 z3 z4 : Int32, J g (d + 3) 105 66 [some (aR 6 m), some (aI (nI e)), some (aI z2), some (aI z3), some (aI z4), some (aI (sp_i (sp_mf E.1).1)), some (aI (sp_i (sp_mf E.1).2)), some (aI (nI k))] [] (f, σ.2) (jMo σ m T base sh e (sp_mon E)) := by
    intro r
    induction r with
    | nil =>
      intro k ss hdr hss hks f T' p' hf hS hq hp' hsq f11 hO z2 z3 z4
      have hks2 : sh ≤ k := by have := List.drop_eq_nil_iff.mp hdr; rw [hE.2.1] at this; exact this
      have hO : sp_mon E = some (p', ss ++ []) := hO
      rw [List.append_nil] at hO
      have hend : jMo σ m T base sh e (sp_mon E) ((f, σ.2), .inl none) := ⟨f, T', hf, hS, fun q h1 h2 => hq q h1 (by omega), Or.inl ⟨_, hO, ⟨hp', by show ss.length = sh; omega, hsq⟩, f11⟩, rfl⟩
      have f7 : f m 7 = nI gs := (hf.2 7 (by decide) (by decide) (by decide)).trans h7
      have f22 : f m 22 = sp_bi ws := (hf.2 22 (by decide) (by decide) (by decide)).trans h22
      refine jm_run ok_M_monic [66] 90 (fun kk hk => ?_)
      conv => whnf
      refine b_le (a := gs) (b := k) f7 rfl (fun _ => ?_) (fun hlt => ?_)
      · conv => whnf
        exact hk _ _ _ _ (r_M_monic_110 hend)
      · have hwf : ws = false := by
          cases ws with
          | false => rfl
          | true => have : sh = gs := hsh; omega
        rw [hwf] at f22
        conv => whnf
        refine b_z (b := false) f22 (fun _ => ?_) (fun h => by cases h)
        conv => whnf
        exact hk _ _ _ _ (r_M_monic_110 hend)
    | cons s r ih =>
      intro k ss hdr hss hks f T' p' hf hS hq hp' hsq f11 hO z2 z3 z4
      have hti : E.2[k]? = some s := by rw [← Nat.add_zero k, ← List.getElem?_drop, hdr]; rfl
      have hk2 : k < sh := by have := (List.getElem?_eq_some_iff.mp hti).1; rw [hE.2.1] at this; exact this
      have hdr2 : E.2.drop (k + 1) = r := by rw [← List.drop_drop, hdr]; rfl
      have hsw := hw.2 s (List.mem_of_getElem? hti)
      have hwt : ws = true := by
        cases ws with
        | true => rfl
        | false => have : sh = 0 := hsh; omega
      have hgs2 : sh = gs := by rw [hsh, hwt]; rfl
      have f7 : f m 7 = nI gs := (hf.2 7 (by decide) (by decide) (by decide)).trans h7
      have f22 : f m 22 = sp_bi true := by rw [← hwt]; exact (hf.2 22 (by decide) (by decide) (by decide)).trans h22
      have hTs : T' (170 + 8 * e + k) = s := by rw [hq _ (by omega) (by omega)]; exact hE.2.2 k s hti
      rw [sp_mapS] at hO
      refine jm_run ok_M_monic [66] 90 (fun kk hk => ?_)
      conv => whnf
      refine b_le (a := gs) (b := k) f7 rfl (fun h => by omega) (fun _ => ?_)
      conv => whnf
      refine b_z (b := true) f22 (fun h => by cases h) (fun _ => ?_)
      conv => whnf
      refine b_nz (b := false) f11 (fun h => by cases h) (fun _ => ?_)
      conv => whnf
      refine hk _ _ _ _ (k_M_monic_94 rfl c_mcof (fun u hu => ?_))
      subst hu
      show J g (d + 3) 105 97 _ _ (f, σ.2) _
      refine jm_run ok_M_monic [66] 90 (fun kk hk => ?_)
      conv => whnf
      refine hk _ _ _ _ (k_M_monic_101 rfl (c_mscaled (σ := (f, σ.2)) (p := 170 + 8 * e + k) hM hS (by omega) (by rw [hTs]; exact hsw) hcf f11) (fun u hu => ?_))
      obtain ⟨f3, l3, hf3, hS3, h4, hu⟩ := hu
      subst hu
      rw [hTs] at h4
      have hfm3 := hf.trans hf3
      show J g (d + 3) 105 104 _ _ (f3, σ.2) _
      rcases h4 with ⟨h4, f311⟩ | ⟨h4, f311⟩
      · rw [h4] at hO
        have hO : sp_mon E = ((sp_mapS (sp_mf E.1).1 (sp_mf E.1).2 r).map (fun r' => l3 :: r')).map (fun ss' => (p', ss ++ ss')) := hO
        refine jm_run ok_M_monic [66] 90 (fun kk hk => ?_)
        conv => whnf
        rw [nI_1]
        refine hk _ _ _ _ (ih (k + 1) (ss ++ [l3]) hdr2 (by rw [List.length_append, hss]; rfl) (by omega) f3 (tU T' (170 + 8 * e + k) l3) p' hfm3 hS3 (fun q h1 h2 => ?_) ?_ (fun k' q hk' => ?_) f311 ?_ _ _ _)
        · rw [tU_ne (by omega)]; exact hq q h1 (by omega)
        · rw [tU_ne (by omega)]; exact hp'
        · by_cases hkk : k' < k
          · rw [List.getElem?_append_left (by omega)] at hk'
            rw [tU_ne (by omega)]
            exact hsq k' q hk'
          · have hlt := (List.getElem?_eq_some_iff.mp hk').1
            rw [List.length_append] at hlt
            have hlt : k' < ss.length + 1 := hlt
            obtain rfl : k' = k := by omega
            rw [List.getElem?_append_right (by omega), hss, Nat.sub_self] at hk'
            cases hk'
            exact tU_at _ _ _
        · rw [hO]
          cases sp_mapS (sp_mf E.1).1 (sp_mf E.1).2 r with
          | none => rfl
          | some r' => show some _ = some _; simp
      · rw [h4] at hO
        have hO : sp_mon E = none := hO
        have hend : jMo σ m T base sh e (sp_mon E) ((f3, σ.2), .inl none) := ⟨f3, _, hfm3, hS3, fun q h1 h2 => by rw [tU_ne (by omega)]; exact hq q h1 (by omega), Or.inr ⟨hO, f311⟩, rfl⟩
        have f37 : f3 m 7 = nI gs := (hfm3.2 7 (by decide) (by decide) (by decide)).trans h7
        have f322 : f3 m 22 = sp_bi true := by rw [← hwt]; exact (hfm3.2 22 (by decide) (by decide) (by decide)).trans h22
        refine jm_run ok_M_monic [] 90 (fun kk hk => ?_)
        conv => whnf
        rw [nI_1]
        refine b_le (a := gs) (b := k + 1) f37 rfl (fun _ => ?_) (fun _ => ?_)
        · conv => whnf
          exact hk _ _ _ _ (r_M_monic_110 hend)
        · conv => whnf
          refine b_z (b := true) f322 (fun h => by cases h) (fun _ => ?_)
          conv => whnf
          refine b_nz (b := true) f311 (fun _ => ?_) (fun h => by cases h)
          conv => whnf
          exact hk _ _ _ _ (r_M_monic_110 hend)
  have body : ∀ z2 z3 z4 : Int32, z2 = nI (base + e) → J g (d + 3) 105 54 [some (aR 6 m), some (aI (nI e)), some (aI z2), some (aI z3), some (aI z4), some (aI (sp_i (sp_mf E.1).1)), some (aI (sp_i (sp_mf E.1).2)), none] [] σ (jMo σ m T base sh e (sp_mon E)) := by
    intro z2 z3 z4 hz2
    subst hz2
    refine jm_run ok_M_monic [66] 90 (fun kk hk => ?_)
    conv => whnf
    refine hk _ _ _ _ (k_M_monic_60 rfl (c_mscaled hM hT hbe (by rw [hE.1]; exact hw.1) hcf h11) (fun u hu => ?_))
    obtain ⟨f3, l3, hf3, hS3, h4, hu⟩ := hu
    subst hu
    rw [hE.1] at h4
    show J g (d + 3) 105 63 _ _ (f3, σ.2) _
    rcases h4 with ⟨h4, f311⟩ | ⟨h4, f311⟩
    · have hO : sp_mon E = (sp_mapS (sp_mf E.1).1 (sp_mf E.1).2 E.2).map (fun ss' => (l3, [] ++ ss')) := by unfold sp_mon; rw [h4]; rfl
      refine jm_run ok_M_monic [66] 90 (fun kk hk => ?_)
      conv => whnf
      exact hk _ _ _ _ (loop E.2 0 [] rfl rfl (Nat.zero_le _) f3 _ l3 hf3 hS3 (fun q h1 _ => tU_ne h1) (tU_at _ _ _) (fun k' q hk' => (by cases hk')) f311 hO _ _ _)
    · have hO : sp_mon E = none := by unfold sp_mon; rw [h4]; rfl
      have hend : jMo σ m T base sh e (sp_mon E) ((f3, σ.2), .inl none) := ⟨f3, _, hf3, hS3, fun q h1 _ => tU_ne h1, Or.inr ⟨hO, f311⟩, rfl⟩
      have f37 : f3 m 7 = nI gs := (hf3.2 7 (by decide) (by decide) (by decide)).trans h7
      have f322 : f3 m 22 = sp_bi ws := (hf3.2 22 (by decide) (by decide) (by decide)).trans h22
      refine jm_run ok_M_monic [] 90 (fun kk hk => ?_)
      conv => whnf
      refine b_le (a := gs) (b := 0) f37 rfl (fun _ => ?_) (fun _ => ?_)
      · conv => whnf
        exact hk _ _ _ _ (r_M_monic_110 hend)
      · conv => whnf
        refine b_z (b := ws) f322 (fun _ => ?_) (fun _ => ?_)
        · conv => whnf
          exact hk _ _ _ _ (r_M_monic_110 hend)
        · conv => whnf
          refine b_nz (b := true) f311 (fun _ => ?_) (fun h => by cases h)
          conv => whnf
          exact hk _ _ _ _ (r_M_monic_110 hend)
  have hpe : nI base + nI e = nI (base + e) := nI_add base e
  have h1b := hhb.2.1
  by_cases hneg : (sp_hd E.1).1 < 0
  · have em1 : sp_i (sp_mf E.1).1 = -sp_i (sp_hd E.1).2 := by rw [sp_ineg]; exact congrArg sp_i (if_pos hneg)
    have em2 : sp_i (sp_mf E.1).2 = -sp_i (sp_hd E.1).1 := by rw [sp_ineg]; exact congrArg sp_i (show ((sp_hd E.1).1.natAbs : Int) = _ by omega)
    rw [em1, em2] at body
    refine jm_run ok_M_monic [54] 90 (fun kk hk => ?_)
    conv => whnf
    rw [h19, hpe]
    refine jg hM.num ?_
    conv => whnf
    refine ja (ix0 _) hM.l1 row.1 ?_
    conv => whnf
    refine jg hM.den ?_
    conv => whnf
    refine ja (ix0 _) hM.l2 row.2 ?_
    conv => whnf
    rw [sp_i0]
    refine bi_le (a := 0) (b := (sp_hd E.1).1) rfl rfl (fun h => by omega) (fun _ => ?_)
    conv => whnf
    rw [sp_i0]
    refine bi_le (a := 0) (b := (sp_hd E.1).1) rfl rfl (fun h => by omega) (fun _ => ?_)
    conv => whnf
    exact hk _ _ _ _ (body _ _ _ rfl)
  · have em1 : sp_i (sp_mf E.1).1 = sp_i (sp_hd E.1).2 := congrArg sp_i (if_neg hneg)
    have em2 : sp_i (sp_mf E.1).2 = sp_i (sp_hd E.1).1 := congrArg sp_i (show ((sp_hd E.1).1.natAbs : Int) = _ by omega)
    rw [em1, em2] at body
    refine jm_run ok_M_monic [54] 90 (fun kk hk => ?_)
    conv => whnf
    rw [h19, hpe]
    refine jg hM.num ?_
    conv => whnf
    refine ja (ix0 _) hM.l1 row.1 ?_
    conv => whnf
    refine jg hM.den ?_
    conv => whnf
    refine ja (ix0 _) hM.l2 row.2 ?_
    conv => whnf
    rw [sp_i0]
    refine bi_le (a := 0) (b := (sp_hd E.1).1) rfl rfl (fun _ => ?_) (fun h => by omega)
    conv => whnf
    rw [sp_i0]
    refine bi_le (a := 0) (b := (sp_hd E.1).1) rfl rfl (fun _ => ?_) (fun h => by omega)
    conv => whnf
    exact hk _ _ _ _ (body _ _ _ rfl)
end
