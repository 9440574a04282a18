/-! THE MODEL: check -/
section
variable {g : jm_G} {d : Nat} {σ : jm_S} {m : Nat} {S : sp_H}
theorem c_mchk {T : Nat → sp_P} (hR : MR g σ m S) (hG : GS S) (hT : MT T S) (hb : hB S = true) : ∀ (n e : Nat), e + n = (hel S).length → ∀ (f : Nat → Nat → Int32) (T2 : Nat → sp_P) (b : Bool) (z3 : Option jm_V), FM σ m f → MS f m T2 → (∀ q, q ≠ 150 → q ≠ 151 → T2 q = T q) → f m 11 = 0 → sp_chk (hkd S) (hgn S) (hel S) true = sp_chk (hkd S) (hgn S) ((hel S).drop e) b →
    J g (d + 6) 125 19 [some (aR 6 m), some (aI (sp_bi b)), some (aI (nI e)), z3] [] (f, σ.2) (jMd g σ m (ck (sp_chk (hkd S) (hgn S) (hel S) true)) S) := by
  have hM := hR.1
  have hF := hR.2.1
  have hgl := hG.2.2.2.1
  have h8 := hF.2.2.2.2.2.2 hb
  have hl24 := hG.el24 hb
  have hSE := (hG.2.2.2.2.2.2.1 hb).1
  have hC := hR.mc hG
  have hend : ∀ (f : Nat → Nat → Int32) (T2 : Nat → sp_P) (a : Int32), FM σ m f → MS f m T2 → (∀ q, q ≠ 150 → q ≠ 151 → T2 q = T q) → jMd g σ m a S ((f, σ.2), .inl (some (aI a))) := fun f T2 a hf hS2 hT2 => jMd_mk hM (MF_fr hF hf.f10) (MD_fr hR.2.2.1 (hf.1 _ (by omega))) hS2 (MT_fr hG hT (fun q hq => hT2 q (by unfold ks at hq; omega) (by unfold ks at hq; omega))) (fun q hq => hf.1 q (by omega))
  intro n
  induction n with
  | zero =>
    intro e he f T2 b z3 hf hS2 hT2 f11 hO
    have f8 : f m 8 = nI (hel S).length := (hf.f10 8 (by decide)).trans h8
    rw [List.drop_of_length_le (by omega)] at hO
    have hO : _ = some b := hO
    rw [hO]
    cases b with
    | false =>
      refine jm_run ok_M_check [19] 90 (fun kk hk => ?_)
      conv => whnf
      refine b_le f8 rfl (fun _ => ?_) (fun h => by omega)
      conv => whnf
      refine b_z (b := false) rfl (fun _ => ?_) (fun h => by cases h)
      conv => whnf
      exact hk _ _ _ _ (r_M_check_131 (hend f T2 _ hf hS2 hT2))
    | true =>
      refine jm_run ok_M_check [19] 90 (fun kk hk => ?_)
      conv => whnf
      refine b_le f8 rfl (fun _ => ?_) (fun h => by omega)
      conv => whnf
      refine b_z (b := true) rfl (fun h => by cases h) (fun _ => ?_)
      conv => whnf
      exact hk _ _ _ _ (r_M_check_131 (hend f T2 _ hf hS2 hT2))
  | succ n ih =>
    intro e he f T2 b z3 hf hS2 hT2 f11 hO
    have f8 : f m 8 = nI (hel S).length := (hf.f10 8 (by decide)).trans h8
    have gE : (hel S)[e]? = some (hel S)[e] := List.getElem?_eq_getElem (by omega)
    have hEm := List.mem_of_getElem? gE
    have hEA := hT.2.2.1 hb e _ gE
    rw [drop_cons gE, sp_chk] at hO
    generalize (hel S)[e] = E at gE hEm hEA hO
    have hE1 := hSE.1 E hEm
    have hE2 := hSE.2.2 E hEm
    have hEl := hEA.2.1
    have bad : ∀ (n2 k : Nat), k + n2 = (hgn S).length → ∀ (f : Nat → Nat → Int32) (T2 : Nat → sp_P), FM σ m f → MS f m T2 → (∀ q, q ≠ 150 → q ≠ 151 → T2 q = T q) → f m 11 = 1 → sp_chk (hkd S) (hgn S) (hel S) true = none →
        J g (d + 6) 125 38 [some (aR 6 m), some (aI (sp_bi b)), some (aI (nI e)), some (aI (nI k))] [] (f, σ.2) (jMd g σ m (ck (sp_chk (hkd S) (hgn S) (hel S) true)) S) := by
      intro n2
      induction n2 with
      | zero =>
        intro k hkn f T2 hf hS2 hT2 f11 hO
        have f7 : f m 7 = nI (hgn S).length := (hf.f10 7 (by decide)).trans hF.2.2.2.1
        rw [hO]
        refine jm_run ok_M_check [38] 90 (fun kk hk => ?_)
        conv => whnf
        refine b_le f7 rfl (fun _ => ?_) (fun h => by omega)
        conv => whnf
        refine b_z (b := true) f11 (fun h => by cases h) (fun _ => ?_)
        conv => whnf
        exact hk _ _ _ _ (r_M_check_91 (hend f T2 _ hf hS2 hT2))
      | succ n2 ih2 =>
        intro k hkn f T2 hf hS2 hT2 f11 hO
        have f7 : f m 7 = nI (hgn S).length := (hf.f10 7 (by decide)).trans hF.2.2.2.1
        refine jm_run ok_M_check [38] 90 (fun kk hk => ?_)
        conv => whnf
        refine b_le f7 rfl (fun h => by omega) (fun _ => ?_)
        conv => whnf
        refine hk _ _ _ _ (k_M_check_50 rfl c_mcof (fun u hu => ?_))
        subst hu
        show J g (d + 6) 125 53 _ _ (f, σ.2) _
        refine jm_run ok_M_check [38] 90 (fun kk hk => ?_)
        conv => whnf
        refine hk _ _ _ _ (k_M_check_60 rfl (c_mmade1 (σ := (f, σ.2)) (a := 170 + 8 * e + k) (c := 151) hM hS2 (by omega) (by omega) (by omega) f11) (fun u hu => ?_))
        obtain ⟨f3, l3, hf3, hS3, h4, hu⟩ := hu
        subst hu
        have f311 : f3 m 11 = 1 := by
          rcases h4 with h4 | h4
          · cases h4.1
          · exact h4.2
        show J g (d + 6) 125 63 _ _ (f3, σ.2) _
        refine jm_run ok_M_check [38] 90 (fun kk hk => ?_)
        conv => whnf
        refine hk _ _ _ _ (k_M_check_73 rfl (c_madds1 (σ := (f3, σ.2)) (gs := 151) hM hS3 (by omega) f311) (fun u hu => ?_))
        subst hu
        show J g (d + 6) 125 76 _ _ (f3, σ.2) _
        refine jm_run ok_M_check [38] 90 (fun kk hk => ?_)
        conv => whnf
        rw [nI_1]
        exact hk _ _ _ _ (ih2 (k + 1) (by omega) f3 _ (hf.trans hf3) hS3 (fun q a b => (tU_ne b).trans (hT2 q a b)) f311 hO)
    have inner : ∀ (n2 k : Nat), k + n2 = (hgn S).length → ∀ (f : Nat → Nat → Int32) (T2 : Nat → sp_P) (to : sp_P), FM σ m f → MS f m T2 → (∀ q, q ≠ 150 → q ≠ 151 → T2 q = T q) → T2 150 = to → sp_pw to → HVp (hv S) to → f m 11 = 0 → sp_chk (hkd S) (hgn S) (hel S) true = (sp_cks (hkd S) (E.2.drop k) ((hgn S).drop k) to).bind (fun m => sp_chk (hkd S) (hgn S) ((hel S).drop (e + 1)) (b && sp_same m E.1)) →
        J g (d + 6) 125 38 [some (aR 6 m), some (aI (sp_bi b)), some (aI (nI e)), some (aI (nI k))] [] (f, σ.2) (jMd g σ m (ck (sp_chk (hkd S) (hgn S) (hel S) true)) S) := by
      intro n2
      induction n2 with
      | zero =>
        intro k hkn f T2 to hf hS2 hT2 h150 hw hvv f11 hO
        have f7 : f m 7 = nI (hgn S).length := (hf.f10 7 (by decide)).trans hF.2.2.2.1
        rw [List.drop_of_length_le (by omega), List.drop_of_length_le (by omega)] at hO
        have hO : _ = sp_chk (hkd S) (hgn S) ((hel S).drop (e + 1)) (b && sp_same to E.1) := hO
        have hTe : T2 (50 + e) = E.1 := (hT2 _ (by omega) (by omega)).trans hEA.1
        cases b with
        | false =>
          refine jm_run ok_M_check [19, 38] 90 (fun kk hk => ?_)
          conv => whnf
          refine b_le f7 rfl (fun _ => ?_) (fun h => by omega)
          conv => whnf
          refine b_z (b := false) f11 (fun _ => ?_) (fun h => by cases h)
          conv => whnf
          refine b_z (b := false) rfl (fun _ => ?_) (fun h => by cases h)
          conv => whnf
          rw [nI_1]
          exact hk _ _ _ _ (ih (e + 1) (by omega) f T2 false _ hf hS2 hT2 f11 hO)
        | true =>
          refine jm_run ok_M_check [19, 38] 90 (fun kk hk => ?_)
          conv => whnf
          refine b_le f7 rfl (fun _ => ?_) (fun h => by omega)
          conv => whnf
          refine b_z (b := false) f11 (fun _ => ?_) (fun h => by cases h)
          conv => whnf
          refine b_z (b := true) rfl (fun h => by cases h) (fun _ => ?_)
          conv => whnf
          rw [show (50 : Int32) + nI e = nI (50 + e) from nI_add 50 e]
          refine hk _ _ _ _ (k_M_check_104 rfl (c_misSame (σ := (f, σ.2)) (a := 150) (b := 50 + e) hM hS2 (by omega) (by omega) (by rw [h150]; exact hw) (by rw [hTe]; exact hE1.2.1.1)) (fun u hu => ?_))
          subst hu
          rw [h150, hTe]
          show J g (d + 6) 125 107 _ _ (f, σ.2) _
          rw [Bool.true_and] at hO
          cases hs : sp_same to E.1 with
          | false =>
            rw [hs] at hO
            refine jm_run ok_M_check [19, 38] 90 (fun kk hk => ?_)
            conv => whnf
            refine b_z (b := false) rfl (fun _ => ?_) (fun h => by cases h)
            conv => whnf
            rw [nI_1]
            exact hk _ _ _ _ (ih (e + 1) (by omega) f T2 false _ hf hS2 hT2 f11 hO)
          | true =>
            rw [hs] at hO
            refine jm_run ok_M_check [19, 38] 90 (fun kk hk => ?_)
            conv => whnf
            refine b_z (b := true) rfl (fun h => by cases h) (fun _ => ?_)
            conv => whnf
            rw [nI_1]
            exact hk _ _ _ _ (ih (e + 1) (by omega) f T2 true _ hf hS2 hT2 f11 hO)
      | succ n2 ih2 =>
        intro k hkn f T2 to hf hS2 hT2 h150 hw hvv f11 hO
        have f7 : f m 7 = nI (hgn S).length := (hf.f10 7 (by decide)).trans hF.2.2.2.1
        have gs : E.2[k]? = some E.2[k] := List.getElem?_eq_getElem (by omega)
        have gp : (hgn S)[k]? = some (hgn S)[k] := List.getElem?_eq_getElem (by omega)
        have hsm := List.mem_of_getElem? gs
        have hpm := hG.2.2.2.2.2.1 _ (List.mem_of_getElem? gp)
        have hTs := hEA.2.2 k _ gs
        have hTp := hT.2.1 k _ gp
        rw [drop_cons gs, drop_cons gp, sp_cks] at hO
        generalize E.2[k] = ss at gs hsm hTs hO
        generalize (hgn S)[k] = pp at gp hpm hTp hO
        have hss := hE1.2.1.2 ss hsm
        have hsv := hE2.2.1.2 ss hsm
        have hTs2 : T2 (170 + 8 * e + k) = ss := (hT2 _ (by omega) (by omega)).trans hTs
        have hTp2 : T2 (40 + k) = pp := (hT2 _ (by omega) (by omega)).trans hTp
        refine jm_run ok_M_check [38] 90 (fun kk hk => ?_)
        conv => whnf
        refine b_le f7 rfl (fun h => by omega) (fun _ => ?_)
        conv => whnf
        refine hk _ _ _ _ (k_M_check_50 rfl c_mcof (fun u hu => ?_))
        subst hu
        show J g (d + 6) 125 53 _ _ (f, σ.2) _
        refine jm_run ok_M_check [38] 90 (fun kk hk => ?_)
        conv => whnf
        rw [show (40 : Int32) + nI k = nI (40 + k) from nI_add 40 k]
        refine hk _ _ _ _ (k_M_check_60 rfl (c_mmade (σ := (f, σ.2)) (d := d) (a := 170 + 8 * e + k) (b := 40 + k) (c := 151) hM (hf.mc hC) hS2 (by omega) (by omega) (by omega) (by omega) (by omega) (by rw [hTs2]; exact hss) (by rw [hTs2]; exact hsv) (by rw [hTp2]; exact hpm.1) (by rw [hTp2]; exact hpm.2.2) f11) (fun u hu => ?_))
        obtain ⟨f3, l3, hf3, hS3, h4, hu⟩ := hu
        subst hu
        rw [hTs2, hTp2] at h4
        have hf3' := hf.trans hf3
        show J g (d + 6) 125 63 _ _ (f3, σ.2) _
        rcases h4 with ⟨h4, f311⟩ | ⟨h4, f311⟩
        · rw [h4] at hO
          have hO : _ = ((sp_plus (hkd S) 1 1 sp_zm to l3).bind (sp_cks (hkd S) (E.2.drop (k + 1)) ((hgn S).drop (k + 1)))).bind (fun m => sp_chk (hkd S) (hgn S) ((hel S).drop (e + 1)) (b && sp_same m E.1)) := hO
          have hl3 := pok_mulG hpm (pok_nil S) hss.2 hsv h4
          have e150 : tU T2 151 l3 150 = to := (tU_ne (by omega)).trans h150
          have e151 : tU T2 151 l3 151 = l3 := tU_at _ _ _
          refine jm_run ok_M_check [38] 90 (fun kk hk => ?_)
          conv => whnf
          refine hk _ _ _ _ (k_M_check_73 rfl (c_madds (σ := (f3, σ.2)) (d := d + 1) (fs := 150) (gs := 151) (A := 1) (B := 1) (mo := sp_zm) hM (hf3'.mc hC) hS3 (by omega) (by omega) (by omega) (by rw [e150]; exact hw) (by rw [e150]; exact hvv) (by rw [e151]; exact hl3.1) (by rw [e151]; exact hl3.2.2) sp_cf1 sp_zm_ok (HV_zm _) f311) (fun u hu => ?_))
          obtain ⟨f5, l5, hf5, hS5, h6, hu⟩ := hu
          subst hu
          rw [e150, e151] at h6
          have hf5' := hf3'.trans hf5
          have hT5 : ∀ q, q ≠ 150 → q ≠ 151 → tU (tU T2 151 l3) 150 l5 q = T q := fun q a b => (tU_ne a).trans ((tU_ne b).trans (hT2 q a b))
          show J g (d + 6) 125 76 _ _ (f5, σ.2) _
          rcases h6 with ⟨h6, f511⟩ | ⟨h6, f511⟩
          · rw [h6] at hO
            refine jm_run ok_M_check [38] 90 (fun kk hk => ?_)
            conv => whnf
            rw [nI_1]
            exact hk _ _ _ _ (ih2 (k + 1) (by omega) f5 _ l5 hf5' hS5 hT5 (tU_at _ _ _) (sp_plus_w sp_cf1 hw hl3.1.2 h6) (HVp_plus (HV_zm _) hvv hl3.2.2 h6) f511 hO)
          · rw [h6] at hO
            refine jm_run ok_M_check [38] 90 (fun kk hk => ?_)
            conv => whnf
            rw [nI_1]
            exact hk _ _ _ _ (bad n2 (k + 1) (by omega) f5 _ hf5' hS5 hT5 f511 hO)
        · rw [h4] at hO
          refine jm_run ok_M_check [38] 90 (fun kk hk => ?_)
          conv => whnf
          refine hk _ _ _ _ (k_M_check_73 rfl (c_madds1 (σ := (f3, σ.2)) (gs := 151) hM hS3 (by omega) f311) (fun u hu => ?_))
          subst hu
          show J g (d + 6) 125 76 _ _ (f3, σ.2) _
          refine jm_run ok_M_check [38] 90 (fun kk hk => ?_)
          conv => whnf
          rw [nI_1]
          exact hk _ _ _ _ (bad n2 (k + 1) (by omega) f3 _ hf3' hS3 (fun q a b => (tU_ne b).trans (hT2 q a b)) f311 hO)
    have hst : jm_wi (f, σ.2) (m + 4) 150 0 = ((jm_wi (f, σ.2) (m + 4) 150 0).1, σ.2) := rfl
    have hS3 := MS_nil (ρ := σ.2) (p := 150) hS2
    have hq3 : ∀ q, q ≠ m + 4 → (jm_wi (f, σ.2) (m + 4) 150 0).1 q = f q := fun q hq => jm_wi_q hq
    refine jm_run ok_M_check [38] 90 (fun kk hk => ?_)
    conv => whnf
    refine b_le f8 rfl (fun h => by omega) (fun _ => ?_)
    conv => whnf
    refine jg hM.size ?_
    conv => whnf
    refine jw (i := 150) rfl hM.l4 ?_
    conv => whnf
    rw [hst]
    refine hk _ _ _ _ (inner (hgn S).length 0 (by omega) _ _ [] ⟨fun q hq => (hq3 q (by omega)).trans (hf.1 q hq), fun k a b c => (congrFun (hq3 m (by omega)) k).trans (hf.2 k a b c)⟩ hS3 (fun q a b => (tU_ne a).trans (hT2 q a b)) (tU_at _ _ _) sp_pw_nil (HVp_nil _) ((congrFun (hq3 m (by omega)) 11).trans f11) ?_)
    rw [hO]; rfl
theorem c_mcheck (hR : MR g σ m S) (hG : GS S) : J g (d + 6) 125 0 [some (aR 6 m), none, none, none] [] σ (jMd g σ m (op_check S).1 (op_check S).2) := by
  have hM := hR.1
  obtain ⟨T, hS, hT⟩ := id hR.2.2.2
  have hF := hR.2.1
  unfold op_check
  cases hb : hB S with
  | false =>
    rw [if_neg (by decide)]
    have h9 : σ.1 m 9 = sp_bi false := by rw [hF.2.2.2.2.1, hb]
    refine jm_run ok_M_check [] 90 (fun kk hk => ?_)
    conv => whnf
    refine b_nz h9 (fun h => by cases h) (fun _ => ?_)
    conv => whnf
    exact hk _ _ _ _ (r_M_check_9 (jMd_same hR))
  | true =>
    rw [if_pos rfl]
    have h9 : σ.1 m 9 = sp_bi true := by rw [hF.2.2.2.2.1, hb]
    have hst : jm_wi σ m 11 0 = ((jm_wi σ m 11 0).1, σ.2) := rfl
    refine jm_run ok_M_check [19] 90 (fun kk hk => ?_)
    conv => whnf
    refine b_nz h9 (fun _ => ?_) (fun h => by cases h)
    conv => whnf
    refine ⟨Or.inl rfl, ?_⟩
    conv => whnf
    rw [hst]
    exact hk _ _ _ _ (c_mchk hR hG hT hb (hel S).length 0 (by omega) _ T true _ ⟨fun q hq => jm_wi_q (by omega), fun k a _ _ => jm_wi_k a⟩ (MS_fr hS (fun q a b => jm_wi_q (by omega))) (fun _ _ _ => rfl) jm_wi_at rfl)
end
