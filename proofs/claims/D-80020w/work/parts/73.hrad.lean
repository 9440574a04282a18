/-! the House: radical -/
/-- a variable -/
def pvm (v : Nat) : sp_M := match v with
  | 0 => (1, (0, (0, (0, 0))))
  | 1 => (0, (1, (0, (0, 0))))
  | 2 => (0, (0, (1, (0, 0))))
  | 3 => (0, (0, (0, (1, 0))))
  | _ => (0, (0, (0, (0, 1))))
theorem pvm_ok (v : Nat) : sp_ok (pvm v) := by
  unfold pvm
  split <;> exact ⟨by decide, by decide, by decide, by decide, by decide⟩
theorem pvm_c {v : Nat} (hv : v < 5) : nI (1 * 2 ^ (6 * (4 - v))) = sp_c (pvm v) := by
  rcases lt5 hv with e | e | e | e | e <;> (subst e; exact congrArg nI (by decide))
theorem pvm_HV {v : Nat} (hv : v < 5) : HV (v + 1) (pvm v) := by
  intro i h1 h2
  rcases lt5 hv with e | e | e | e | e <;> (subst e; rcases lt5 h2 with q | q | q | q | q <;> (subst q; first | rfl | omega))
def sp_rad (o : Nat × (Nat × (Nat × (Nat × (Int32 ⊕ List sp_E))))) : Int32 := match o.2.2.2.2 with
  | .inl y => y
  | .inr els => sp_bi (decide (els.length = 1 ∧ gl (sp_G els) 0 = sp_zm))
def sp_rd2 (j lim : Nat) (gn : List sp_P) (o : Option sp_P) : Int32 := match o with
  | none => -7
  | some m => sp_rad (sp_bas j 0 (gn ++ [m]) lim)
def op_radical (S : sp_H) (x y : Int32) : Int32 × sp_H := (if sp_ip x = true then (if sp_is y = true then (if hv S = 4 then -3 else sp_rd2 (hkd S) y.toNatClampNeg (hgn S) (sp_plus (hkd S) (-1) 1 (pvm (hv S)) sp_un (pg S x.toNatClampNeg))) else -2) else -1, S)
theorem so_un (j : Nat) : so j sp_un := List.pairwise_singleton _ _
section
variable {g : jm_G} {d : Nat} {σ τ : jm_S} {h : Nat} {S : sp_H}
theorem HR_oth (hR : HR g σ h S) (hG : GS S) (hq : ∀ q, ¬ (h + 1260 ≤ q ∧ q < h + 1524) → τ.2.1 q = σ.2.1 q) (hE : EL g τ (h + 1260) 0) (hs : ∃ s, EPp τ (h + 1260) 0 s) (hf : ∀ q, ¬ (h + 1260 ≤ q ∧ q < h + 1533) → τ.1 q = σ.1 q) : HR g τ h S := by
  obtain ⟨a1, a2, a3, a4, a5, -, a7⟩ := hR
  have hl := hG.2.2.1
  have hgl := hG.2.2.2.1
  have e25 : eo (h + 196) 8 25 = h + 1260 := by unfold eo; omega
  refine ⟨HL_mv a1 (EL_congr (fun q h1 h2 => hq q (by omega)) a1.e1) hE (fun q h1 h2 h3 => hq q (by omega)), HF_fr a2 (hf _ (by omega)), PL_fr (n := 40) a3 (by omega) (fun q h1 h2 => hf q (by omega)), PL_fr (n := 8) a4 (by omega) (fun q h1 h2 => hf q (by omega)), HE_fr a5 hgl (hf _ (by omega)) (fun q h1 h2 => hf q (by omega)) (by rw [hq _ (by omega)]) (hq _ (by omega)), hs, fun hb hqq => PL_fr (n := 24) (a7 hb hqq) ?_ (fun q h1 h2 => hf q (by omega))⟩
  have hkl := (hG.2.2.2.2.2.2.2 hb hqq).1
  have hel := (hG.2.2.2.2.2.2.1 hb).1.2.1
  omega
theorem c_radical {x y : Int32} (hR : HR g σ h S) (hG : GS S) (hr : sp_rm g σ) (hh : h + 1631 ≤ σ.2.2.1) : J g (d + 11) 70 0 [some (aR 1 h), some (aI x), some (aI y), none] [] σ (jH g σ h (op_radical S x y).1 (op_radical S x y).2) := by
  have hH := hR.1
  have hj := hG.2.1
  have hgl := hG.2.2.2.1
  have hv4 := hG.1.2
  have e25 : eo (h + 1260) 0 25 = h + 1524 := by unfold eo; omega
  refine jm_run ok_H_radical [] 90 (fun kk hk => ?_)
  conv => whnf
  refine hk _ _ _ _ (k_H_radical_1 rfl c_isPlace (fun u hu => ?_))
  subst hu
  show J g (d + 11) 70 4 _ _ σ _
  unfold op_radical
  cases hx : sp_ip x with
  | false =>
    rw [if_neg (by decide)]
    refine jm_run ok_H_radical [] 90 (fun kk hk => ?_)
    conv => whnf
    refine b_nz (b := false) rfl (fun h => by cases h) (fun _ => ?_)
    conv => whnf
    exact hk _ _ _ _ (r_H_radical_8 (jH_same hR))
  | true =>
    rw [if_pos rfl]
    obtain ⟨k, hk40, rfl⟩ := sp_ip_t hx
    rw [nI_clamp (n := k) (by omega)]
    refine jm_run ok_H_radical [] 90 (fun kk hk => ?_)
    conv => whnf
    refine b_nz (b := true) rfl (fun _ => ?_) (fun h => by cases h)
    conv => whnf
    refine hk _ _ _ _ (k_H_radical_10 rfl c_isSteps (fun u hu => ?_))
    subst hu
    show J g (d + 11) 70 13 _ _ σ _
    cases hy : sp_is y with
    | false =>
      rw [if_neg (by decide)]
      refine jm_run ok_H_radical [] 90 (fun kk hk => ?_)
      conv => whnf
      refine b_nz (b := false) rfl (fun h => by cases h) (fun _ => ?_)
      conv => whnf
      exact hk _ _ _ _ (r_H_radical_18 (jH_same hR))
    | true =>
      rw [if_pos rfl]
      obtain ⟨lim, hlim, rfl⟩ := sp_is_t hy
      rw [nI_clamp (by omega)]
      by_cases h4 : hv S = 4
      · rw [if_pos h4]
        refine jm_run ok_H_radical [] 90 (fun kk hk => ?_)
        conv => whnf
        refine b_nz (b := true) rfl (fun _ => ?_) (fun h => by cases h)
        conv => whnf
        refine b_ne hR.2.1.1 (b := 4) rfl (fun q => absurd h4 q) (fun _ => ?_)
        conv => whnf
        exact hk _ _ _ _ (r_H_radical_29 (jH_same hR))
      · rw [if_neg h4]
        have hP := hR.pl hG hk40
        have hpr := hH.ple hk40
        have wp := pg_ok hG hk40
        obtain ⟨s, es1, es2⟩ := hR.2.2.2.2.2.1
        refine jm_run ok_H_radical [] 90 (fun kk hk => ?_)
        conv => whnf
        refine b_nz (b := true) rfl (fun _ => ?_) (fun h => by cases h)
        conv => whnf
        refine b_ne hR.2.1.1 (b := 4) rfl (fun _ => ?_) (fun q => absurd q h4)
        conv => whnf
        refine jg hH.fo ?_
        conv => whnf
        refine hk _ _ _ _ (k_H_radical_35 rfl (c_order2 hH hj hR.2.1.2.1) (fun u hu => ?_))
        subst hu
        show J g (d + 11) 70 38 _ _ σ _
        refine jm_run ok_H_radical [] 90 (fun kk hk => ?_)
        conv => whnf
        refine hk _ _ _ _ (k_H_radical_39 rfl c_begin (fun u hu => ?_))
        obtain ⟨fB, b1, b7, b9, b10, b11, b12, b13, b14, b15, hu⟩ := hu
        subst hu
        have r1 : ∀ q, q ≠ h + 1260 → (jm_wr σ (h + 1260) 8 (goa g (hkd S) + 1)).2.1 q = σ.2.1 q := fun q hq => jm_wr_q hq
        have r2 : ∀ k, k ≠ 8 → (jm_wr σ (h + 1260) 8 (goa g (hkd S) + 1)).2.1 (h + 1260) k = σ.2.1 (h + 1260) k := fun k hk => jm_wr_k hk
        have r3 : (jm_wr σ (h + 1260) 8 (goa g (hkd S) + 1)).2.1 (h + 1260) 8 = goa g (hkd S) + 1 := jm_wr_at
        have r4 : (jm_wr σ (h + 1260) 8 (goa g (hkd S) + 1)).2.2 = σ.2.2 := rfl
        show J g (d + 11) 70 42 _ _ (fB, (jm_wr σ (h + 1260) 8 (goa g (hkd S) + 1)).2) _
        generalize (jm_wr σ (h + 1260) 8 (goa g (hkd S) + 1)).2 = ρ at r1 r2 r3 r4
        have hrρ : ∀ f : Nat → Nat → Int32, sp_rm g (f, ρ) := fun f => by
          unfold sp_rm at hr ⊢
          show gdm g ρ.2.1 = 7 ∧ ρ.2.1 + 1 ≤ _ ∧ ρ.2.2 + 7 ≤ _
          rw [r4]; exact hr
        have hEρ : ∀ f : Nat → Nat → Int32, EL g (f, ρ) (h + 1260) 0 := fun f => EL_congr8 (σ := σ) r2 (fun q h1 _ _ => r1 q (by omega)) hH.e2
        have hSρ : ∀ f : Nat → Nat → Int32, EP g (f, ρ) (h + 1260) 0 (hkd S) s := fun f => ⟨hj, r3, fun i hi => ⟨(es1 i hi).1, by rw [r1 _ (by omega)]; exact (es1 i hi).2⟩, es2⟩
        have hHρ : ∀ f : Nat → Nat → Int32, HL g (f, ρ) h := fun f => HL_mv hH (EL_congr (fun q _ h2 => r1 q (by have e26 : eo (h + 196) 8 25 = h + 1260 := (by unfold eo; omega); omega)) hH.e1) (hEρ f) (fun q h1 h2 h3 => r1 q (by omega))
        have thr : ∀ (f3 : Nat → Nat → Int32) (ρ3 : (Nat → Nat → Nat) × (Nat × Nat)) (c : Int32) (z3 : Option jm_V), (∀ q, ¬ (h + 1260 ≤ q ∧ q < h + 1524) → ρ3.1 q = σ.2.1 q) → ρ3.2 = σ.2.2 → EL g (f3, ρ3) (h + 1260) 0 → (∃ s, EPp (f3, ρ3) (h + 1260) 0 s) → (∀ q, ¬ (h + 1260 ≤ q ∧ q < h + 1533) → f3 q = σ.1 q) →
            J g (d + 11) 70 145 [some (aR 1 h), some (aI (nI k)), some (aI (nI lim)), z3] [aR 7 ρ3.2.1] (jm_wi (jm_nw (f3, ρ3) 7) ρ3.2.1 0 c) (jH g σ h c S) := by
          intro f3 ρ3 c z3 t1 t2 t3 t4 t5
          refine jm_run ok_H_radical [] 90 (fun kk hk => ?_)
          conv => whnf
          exact hk _ _ _ _ (r_H_radical_150 (jH_thr (HR_oth hR hG t1 t3 t4 t5) hG hh (fun q hq => t5 q (by omega)) (fun q hq => t1 q (by omega)) t2))
        have hEPp : ∀ f : Nat → Nat → Int32, ∃ s, EPp (f, ρ) (h + 1260) 0 s := fun f => ⟨s, (hSρ f).2.2.1, es2⟩
        have hst0 : jm_wi (fB, ρ) (h + 1525) 0 0 = ((jm_wi (fB, ρ) (h + 1525) 0 0).1, ρ) := rfl
        have fm0 : (jm_wi (fB, ρ) (h + 1525) 0 0).1 (h + 1525) 0 = 0 := jm_wi_at
        have fmq : ∀ q, q ≠ h + 1525 → (jm_wi (fB, ρ) (h + 1525) 0 0).1 q = fB q := fun q hq => jm_wi_q hq
        generalize (jm_wi (fB, ρ) (h + 1525) 0 0).1 = fm at hst0 fm0 fmq
        refine jm_run ok_H_radical [] 90 (fun kk hk => ?_)
        conv => whnf
        refine jg (hHρ fB).fm ?_
        conv => whnf
        rw [hst0]
        refine jg (hHρ fB).fm ?_
        conv => whnf
        refine hk _ _ _ _ (k_H_radical_58 rfl (c_insert (σ := (fm, ρ)) (n := 0) (k0 := 0) (hHρ fB).pm (by omega) (by omega) fm0 (hrρ fm)) (fun u hu => ?_))
        rcases hu with ⟨h100, -⟩ | ⟨-, hu⟩
        · exact absurd h100 (by decide)
        subst hu
        have hPi : PA (insF (fm, ρ) (h + 1525) 0 0 (sp_i 1) (sp_i 1) (sp_c sp_zm)).1 (h + 1525) sp_un := PA_ins (σ := (fm, ρ)) (p := []) (k := 0) (t := (1, (1, sp_zm))) (PA_nil fm0) (Nat.le_refl _)
        have hiq : ∀ q, ¬ (h + 1525 ≤ q ∧ q ≤ h + 1525 + 3) → (insF (fm, ρ) (h + 1525) 0 0 (sp_i 1) (sp_i 1) (sp_c sp_zm)).1 q = fm q := fun q hq => insF_q hq
        show J g (d + 11) 70 61 _ _ ((insF (fm, ρ) (h + 1525) 0 0 (sp_i 1) (sp_i 1) (sp_c sp_zm)).1, ρ) _
        generalize (insF (fm, ρ) (h + 1525) 0 0 (sp_i 1) (sp_i 1) (sp_c sp_zm)).1 = fi at hPi hiq
        have fiq : ∀ q, ¬ (h + 1525 ≤ q ∧ q ≤ h + 1528) → fi q = fB q := fun q hq => (hiq q (by omega)).trans (fmq q (by omega))
        have fih : fi h = σ.1 h := (fiq h (by omega)).trans (b1 h (by omega))
        refine jm_run ok_H_radical [] 90 (fun kk hk => ?_)
        conv => whnf
        refine jg (hHρ fB).fm ?_
        conv => whnf
        refine hk _ _ _ _ (k_H_radical_66 rfl (c_order2 (σ := (fi, ρ)) (hHρ fi) hj ((congrFun fih 2).trans hR.2.1.2.1)) (fun u hu => ?_))
        subst hu
        show J g (d + 11) 70 69 _ _ (fi, ρ) _
        refine jm_run ok_H_radical [] 90 (fun kk hk => ?_)
        conv => whnf
        refine jg (hHρ fB).fx ?_
        conv => whnf
        rw [show (fi, ρ).1 h 0 = nI (hv S) from (congrFun fih 0).trans hR.2.1.1]
        refine hk _ _ _ _ (k_H_radical_80 rfl (c_power (e := 1) (by omega) (by decide)) (fun u hu => ?_))
        subst hu
        show J g (d + 11) 70 83 _ _ (fi, ρ) _
        refine jm_run ok_H_radical [] 90 (fun kk hk => ?_)
        conv => whnf
        refine jg (hHρ fB).fpl ?_
        conv => whnf
        refine jr rfl (hHρ fB).npl ((hHρ fB).ple hk40).1 ?_
        conv => whnf
        have hPk : PA fi (h + 3 + 4 * k) (pg S k) := PA_frame hP ((fiq _ (by omega)).trans (b1 _ (by omega))) ((fiq _ (by omega)).trans (b1 _ (by omega))) ((fiq _ (by omega)).trans (b1 _ (by omega))) ((fiq _ (by omega)).trans (b1 _ (by omega)))
        refine hk _ _ _ _ ?_
        rw [show ((some (aI (nI (1 * 2 ^ (6 * (4 - hv S)))))).toList : List jm_V) = (some (aI (sp_c (pvm (hv S))))).toList from by rw [pvm_c (by omega)]]
        refine k_H_radical_89 rfl (c_plus (σ := (fi, ρ)) (A := -1) (B := 1) (m := pvm (hv S)) (hHρ fi).pm hPi sp_un_w ((hHρ fi).ple hk40).2 hPk wp.1 hj sp_cfm (pvm_ok _) (by omega) (by omega) (by unfold dj; omega) (hrρ fi)) (fun u hu => ?_)
        obtain ⟨f1, hf1, h3⟩ := hu
        have f1q : ∀ q, ¬ (h + 1524 ≤ q ∧ q < h + 1529) → f1 q = fB q := fun q hq => (hf1 q (by omega) (by omega)).trans (fiq q (by omega))
        rcases h3.symm with ⟨hn, hu⟩ | ⟨m, hm, hu, hPA2⟩
        · subst hu
          rw [hn]
          exact thr f1 ρ (-7) _ (fun q hq => r1 q (by omega)) r4 (hEρ f1) (hEPp f1) (fun q hq => (f1q q (by omega)).trans (b1 q (by omega)))
        · subst hu
          rw [hm]
          show J g (d + 11) 70 92 _ _ (f1, ρ) (jH g σ h (sp_rad (sp_bas (hkd S) 0 (hgn S ++ [m]) lim)) S)
          have hmw : sp_pw m := sp_plus_w sp_cfm sp_un_w wp.1.2 hm
          have hms : so (hkd S) m := (so_plus sp_cfm (so_un _) sp_un_w wp.1.2 hm).1
          have fin : ∀ (st : sp_ES) (f : Nat → Nat → Int32) (z3 : Option jm_V), SI (hkd S) st.1 → sp_gns 0 0 (hgn S ++ [m]) ([], fun _ _ => false) = .inr st → ER f (h + 1260) 0 s 0 st.1 st.2 → (∀ q, ¬ (h + 1260 ≤ q ∧ q < h + 1533) → f q = σ.1 q) → f (h + 1260) 15 = nI st.1.length → f (h + 1260) 11 = 0 → f (h + 1260) 12 = nI lim → f (h + 1260) 13 = 0 → f (h + 1260) 14 = 0 →
              J g (d + 11) 70 134 [some (aR 1 h), some (aI (nI k)), some (aI (nI lim)), z3] [] (f, ρ) (jH g σ h (sp_rad (sp_bas (hkd S) 0 (hgn S ++ [m]) lim)) S) := by
            intro st f z3 hSI hgns hER hf h15 h11 h12 h13 h14
            have hbas : sp_bas (hkd S) 0 (hgn S ++ [m]) lim = sp_fin (hkd S) (sp_lp (hkd S) 300 lim 0 0 st) := by unfold sp_bas; rw [hgns]
            rw [hbas]
            refine jm_run ok_H_radical [] 90 (fun kk hk => ?_)
            conv => whnf
            refine jg (hHρ f).fo ?_
            conv => whnf
            refine hk _ _ _ _ (k_H_radical_139 rfl (c_complete (σ := (f, ρ)) (sh := 0) (hEρ f) (hSρ f) (by decide) (by decide) (by omega) (Nat.le_refl _) (hrρ f) hER hSI (by rw [Nat.sub_self]; exact h11) h12 h13 h14 h15) (fun u hu => ?_))
            generalize sp_fin (hkd S) (sp_lp (hkd S) 300 lim 0 0 st) = rr at hu
            obtain ⟨m2, pr, ps, bf, o⟩ := rr
            obtain ⟨f2, ρ2, s2, c1, c2, c3, c4, c5, c6, c7, c8, c9, c10⟩ := hu
            have hρ2 : ∀ q, ¬ (h + 1260 ≤ q ∧ q < h + 1524) → ρ2.1 q = σ.2.1 q := fun q hq => (c1.1 q (by omega)).trans (r1 q (by omega))
            have hρ22 : ρ2.2 = σ.2.2 := c1.2.trans r4
            have hE2 : EL g (f2, ρ2) (h + 1260) 0 := c1.el (hEρ f)
            have hff : ∀ q, ¬ (h + 1260 ≤ q ∧ q < h + 1533) → f2 q = σ.1 q := fun q h2 => (c3 q (by omega)).trans (hf q h2)
            rcases c10 with ⟨els, ho, hu, hX⟩ | ⟨y, ho, hu⟩
            · subst hu
              have ho' : o = .inr els := ho
              subst ho'
              have hH2 : HL g (f2, ρ2) h := HL_mv hH (EL_congr (fun q _ h2 => hρ2 q (by have e26 : eo (h + 196) 8 25 = h + 1260 := (by unfold eo; omega); omega)) hH.e1) hE2 (fun q h1 h2 h3 => hρ2 q (by omega))
              have hR2 : HR g (f2, ρ2) h S := HR_oth hR hG hρ2 hE2 ⟨s2, c2.2.2.1, c2.2.2.2⟩ hff
              have hGl : (sp_G els).length = els.length := by rw [sp_G, List.length_map]
              have hl24 := hX.1
              show J g (d + 11) 70 142 _ _ (f2, ρ2) (jH g σ h (sp_bi (decide (els.length = 1 ∧ gl (sp_G els) 0 = sp_zm))) S)
              have endf : ∀ b : Bool, b = decide (els.length = 1 ∧ gl (sp_G els) 0 = sp_zm) → jH g σ h (sp_bi (decide (els.length = 1 ∧ gl (sp_G els) 0 = sp_zm))) S ((f2, ρ2), .inl (some (aI (sp_bi b)))) := fun b hb => by
                rw [hb]
                exact jH_ret hR2 (fun q hq => hff q (by omega)) (fun q hq => hρ2 q (by omega)) hρ22
              refine jm_run ok_H_radical [] 90 (fun kk hk => ?_)
              conv => whnf
              refine jg hH2.fo ?_
              conv => whnf
              refine b_ne hX.2.1 (b := 1) rfl (fun h1 => ?_) (fun h1 => ?_)
              · conv => whnf
                exact hk _ _ _ _ (r_H_radical_178 (endf false (decide_eq_false (fun q => h1 q.1)).symm))
              · conv => whnf
                refine jg hH2.fo ?_
                conv => whnf
                have hok := gl_ok hX.eg (i := 0) (by omega)
                refine hk _ _ _ _ (k_H_radical_167 rfl (c_leadG (σ := (f2, ρ2)) hE2 c2 hX.eg (i := 0) (by omega)) (fun u hu => ?_))
                subst hu
                show J g (d + 11) 70 170 _ _ (f2, ρ2) _
                have h6 := sp_6_lt hok
                refine jm_run ok_H_radical [] 90 (fun kk hk => ?_)
                conv => whnf
                refine b_ne (a := sp_6 (gl (sp_G els) 0)) (b := 0) rfl rfl (fun h2 => ?_) (fun h2 => ?_)
                · conv => whnf
                  exact hk _ _ _ _ (r_H_radical_178 (endf false (decide_eq_false (fun q => h2 (by rw [q.2]; rfl))).symm))
                · conv => whnf
                  exact hk _ _ _ _ (r_H_radical_178 (endf true (decide_eq_true ⟨h1, sp_c_inj hok sp_zm_ok (h2.trans rfl)⟩).symm))
            · subst hu
              have ho' : o = .inl y := ho
              subst ho'
              exact thr f2 ρ2 y _ hρ2 hρ22 hE2 ⟨s2, c2.2.2.1, c2.2.2.2⟩ hff
          have one : ∀ (p : sp_P) (pa i : Nat) (st : sp_ES) (f : Nat → Nat → Int32) (u : jm_O), sp_pw p → so (hkd S) p → st.1.length ≤ i → SI (hkd S) st.1 → (∀ q, ¬ (h + 1260 ≤ q ∧ q < h + 1533) → f q = σ.1 q) → f (h + 1260) 11 = 0 → f (h + 1260) 12 = nI lim → f (h + 1260) 13 = 0 → f (h + 1260) 14 = 0 → jGn (f, ρ) (h + 1260) 0 s 0 i st.1.length (sp_gen 0 i p st) u →
              (∃ (st2 : sp_ES) (f2 : Nat → Nat → Int32), sp_gen 0 i p st = some st2 ∧ u = ((f2, ρ), .inl none) ∧ ER f2 (h + 1260) 0 s 0 st2.1 st2.2 ∧ st2.1.length ≤ i + 1 ∧ SI (hkd S) st2.1 ∧ (∀ q, ¬ (h + 1260 ≤ q ∧ q < h + 1524) → f2 q = f q) ∧ f2 (h + 1260) 9 = nI (i + 1) ∧ f2 (h + 1260) 15 = nI st2.1.length ∧ f2 (h + 1260) 11 = 0 ∧ f2 (h + 1260) 12 = nI lim ∧ f2 (h + 1260) 13 = 0 ∧ f2 (h + 1260) 14 = 0) ∨
              (sp_gen 0 i p st = none ∧ ∃ f2 : Nat → Nat → Int32, u = jT (f, ρ) f2 (-7) ∧ ∀ q, ¬ (h + 1260 ≤ q ∧ q < h + 1533) → f2 q = σ.1 q) := by
            intro p pa i st f u hpw hps hsl hSI hf h11 h12 h13 h14 hu
            obtain ⟨f2, c1, c2, c3, c4⟩ := hu
            rcases c4 with ⟨st2, ho, hu, hER2, h152⟩ | ⟨ho, hu, h152⟩
            · have hlen : st2.1.length ≤ st.1.length + 1 := by
                unfold sp_gen at ho
                split at ho
                · cases ho; omega
                · cases hm2 : sp_mon (p, sp_us 0 i) with
                  | none => rw [hm2] at ho; cases ho
                  | some E => rw [hm2] at ho; cases ho; show (st.1 ++ [E]).length ≤ _; rw [List.length_append]; exact Nat.le_refl _
              exact Or.inl ⟨st2, f2, ho, hu, hER2, by omega, SI_gen hSI hps hpw ho, fun q hq => c1 q (by omega), c3, h152, (c2 11 (by decide) (by decide) (by decide)).trans h11, (c2 12 (by decide) (by decide) (by decide)).trans h12, (c2 13 (by decide) (by decide) (by decide)).trans h13, (c2 14 (by decide) (by decide) (by decide)).trans h14⟩
            · exact Or.inr ⟨ho, f2, hu, fun q hq => (c1 q (by omega)).trans (hf q hq)⟩
          have gnf : ∀ (i : Nat) (st : sp_ES) (p : sp_P) (r : List sp_P), sp_gns 0 0 (hgn S ++ [m]) ([], fun _ _ => false) = sp_gns 0 i (p :: r) st → sp_gen 0 i p st = none → sp_rad (sp_bas (hkd S) 0 (hgn S ++ [m]) lim) = -7 := by
            intro i st p r h1 h2
            rw [sp_gns, h2] at h1
            unfold sp_bas
            rw [h1]; rfl
          have loop : ∀ (n i : Nat), i + n = (hgn S).length → ∀ (st : sp_ES) (f : Nat → Nat → Int32), st.1.length ≤ i → SI (hkd S) st.1 → sp_gns 0 0 (hgn S ++ [m]) ([], fun _ _ => false) = sp_gns 0 i ((hgn S).drop i ++ [m]) st → ER f (h + 1260) 0 s 0 st.1 st.2 → (∀ q, ¬ (h + 1260 ≤ q ∧ q < h + 1533) → f q = σ.1 q) → PA f (h + 1525) m → f (h + 1260) 9 = nI i → f (h + 1260) 15 = nI st.1.length → f (h + 1260) 11 = 0 → f (h + 1260) 12 = nI lim → f (h + 1260) 13 = 0 → f (h + 1260) 14 = 0 →
              J g (d + 11) 70 94 [some (aR 1 h), some (aI (nI k)), some (aI (nI lim)), some (aI (nI i))] [] (f, ρ) (jH g σ h (sp_rad (sp_bas (hkd S) 0 (hgn S ++ [m]) lim)) S) := by
            intro n
            induction n with
            | zero =>
              intro i hin st f hsl hSI hgns hER hf hPm h9 h15 h11 h12 h13 h14
              have fh5 : f h 5 = nI (hgn S).length := by rw [hf h (by omega)]; exact hR.2.1.2.2.1
              rw [List.drop_of_length_le (by omega), List.nil_append] at hgns
              refine jm_run ok_H_radical [94] 90 (fun kk hk => ?_)
              conv => whnf
              refine b_le fh5 rfl (fun _ => ?_) (fun h => by omega)
              conv => whnf
              refine jg (hHρ f).fo ?_
              conv => whnf
              refine jg (hHρ f).fm ?_
              conv => whnf
              refine hk _ _ _ _ (k_H_radical_131 rfl (c_generator (σ := (f, ρ)) (sh := 0) (hEρ f) (hSρ f) (by decide) (by decide) (hHρ f).pm hPm hmw (by omega) hER (by omega) h9 (by omega) h15 (hrρ f)) (fun u hu => ?_))
              rcases one m (h + 1525) i st f u hmw hms hsl hSI hf h11 h12 h13 h14 hu with ⟨st2, f2, ho, hu, d1, d2, d3, d4, d5, d6, d7, d8, d9, d10⟩ | ⟨ho, f2, hu, hff⟩
              · subst hu
                rw [sp_gns, ho] at hgns
                exact fin st2 f2 _ d3 hgns d1 (fun q hq => (d4 q (by omega)).trans (hf q hq)) d6 d7 d8 d9 d10
              · subst hu
                rw [gnf i st m [] hgns ho]
                exact thr f2 ρ (-7) _ (fun q hq => r1 q (by omega)) r4 (hEρ f2) (hEPp f2) hff
            | succ n ih =>
              intro i hin st f hsl hSI hgns hER hf hPm h9 h15 h11 h12 h13 h14
              have fh5 : f h 5 = nI (hgn S).length := by rw [hf h (by omega)]; exact hR.2.1.2.2.1
              have gp : (hgn S)[i]? = some (hgn S)[i] := List.getElem?_eq_getElem (by omega)
              have hpok := hG.2.2.2.2.2.1 _ (List.mem_of_getElem? gp)
              have hPp := hR.2.2.2.1 i _ gp
              generalize (hgn S)[i] = p at gp hpok hPp
              have hgr := (hHρ f).gne (k := i) (by omega)
              have hPp' : PA f (h + 164 + 4 * i) p := PA_frame hPp (hf _ (by omega)) (hf _ (by omega)) (hf _ (by omega)) (hf _ (by omega))
              rw [drop_cons gp, List.cons_append] at hgns
              refine jm_run ok_H_radical [94] 90 (fun kk hk => ?_)
              conv => whnf
              refine b_le fh5 rfl (fun h => by omega) (fun _ => ?_)
              conv => whnf
              refine jg (hHρ f).fo ?_
              conv => whnf
              refine jg (hHρ f).fgn ?_
              conv => whnf
              refine jr rfl (hHρ f).ngn hgr.1 ?_
              conv => whnf
              refine hk _ _ _ _ (k_H_radical_113 rfl (c_generator (σ := (f, ρ)) (sh := 0) (hEρ f) (hSρ f) (by decide) (by decide) hgr.2 hPp' hpok.1 (by omega) hER (by omega) h9 (by omega) h15 (hrρ f)) (fun u hu => ?_))
              rcases one p (h + 164 + 4 * i) i st f u hpok.1 hpok.2.1 hsl hSI hf h11 h12 h13 h14 hu with ⟨st2, f2, ho, hu, d1, d2, d3, d4, d5, d6, d7, d8, d9, d10⟩ | ⟨ho, f2, hu, hff⟩
              · subst hu
                rw [sp_gns, ho] at hgns
                show J g (d + 11) 70 116 _ _ (f2, ρ) _
                refine jm_run ok_H_radical [94] 90 (fun kk hk => ?_)
                conv => whnf
                rw [nI_1]
                exact hk _ _ _ _ (ih (i + 1) (by omega) st2 f2 d2 d3 hgns d1 (fun q hq => (d4 q (by omega)).trans (hf q hq)) (PA_frame hPm (d4 _ (by omega)) (d4 _ (by omega)) (d4 _ (by omega)) (d4 _ (by omega))) d5 d6 d7 d8 d9 d10)
              · subst hu
                rw [gnf i st p _ hgns ho]
                exact thr f2 ρ (-7) _ (fun q hq => r1 q (by omega)) r4 (hEρ f2) (hEPp f2) hff
          have f1e : f1 (h + 1260) = fB (h + 1260) := f1q _ (by omega)
          refine jm_run ok_H_radical [94] 90 (fun kk hk => ?_)
          conv => whnf
          exact hk _ _ _ _ (loop (hgn S).length 0 (by omega) ([], fun _ _ => false) f1 (Nat.le_refl _) (fun E hE => (by cases hE)) rfl ⟨Nat.zero_le _, (congrFun f1e 10).trans b10, fun i E hE => (by cases hE), fun i k h1 h2 => absurd h2 (Nat.not_lt_zero _)⟩ (fun q hq => (f1q q (by omega)).trans (b1 q (by omega))) hPA2 ((congrFun f1e 9).trans b9) ((congrFun f1e 15).trans b15) ((congrFun f1e 11).trans b11) ((congrFun f1e 12).trans b12) ((congrFun f1e 13).trans b13) ((congrFun f1e 14).trans b14))
end
