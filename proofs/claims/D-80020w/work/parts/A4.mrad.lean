/-! THE MODEL: radical -/
section
variable {g : jm_G} {d : Nat} {σ : jm_S} {m : Nat} {S : sp_H}
theorem sp_d0 {a : sp_M} (h : sp_ok a) : sp_5 a = 0 ↔ a = sp_zm := ⟨fun e => sp_5_inj h sp_zm_ok (e.trans rfl), fun e => by rw [e]; rfl⟩
/-- the end of a radical: what it answers, and the variables as they were -/
theorem c_mradF {T T2 : Nat → sp_P} {f : Nat → Nat → Int32} {x1 x2 x3 : Int32} {c : Int32} {b : Bool} {z4 : Option jm_V} (hR : MR g σ m S) (hG : GS S) (hT : MT T S) (hk1 : ∀ k, k ≤ 10 → k ≠ 1 → f m k = σ.1 m k) (hq : ∀ q, ¬ (m ≤ q ∧ q ≤ m + 4) → q ≠ m + 7 → q ≠ m + 8 → f q = σ.1 q) (hS : MS f m T2) (hT2 : ∀ q, ks S q → T2 q = T q) (hc : (c = sp_bi b ∧ f m 11 = 0 ∧ f m 12 = 0) ∨ flg f m c) :
    J g (d + 8) 126 159 [some (aR 6 m), some (aI x1), some (aI x2), some (aI x3), z4] [aI (sp_bi b)] (f, σ.2) (jMd g σ m c S) := by
  have hM := hR.1
  have hF := hR.2.1
  have f0 : f m 0 = nI (hv S) := (hk1 0 (by decide) (by decide)).trans hF.1
  have hst : jm_wi (f, σ.2) m 1 (nI (hv S)) = ((jm_wi (f, σ.2) m 1 (nI (hv S))).1, σ.2) := rfl
  have Gk : ∀ k, k ≠ 1 → (jm_wi (f, σ.2) m 1 (nI (hv S))).1 m k = f m k := fun k a => jm_wi_k a
  have Gq : ∀ q, q ≠ m → (jm_wi (f, σ.2) m 1 (nI (hv S))).1 q = f q := fun q a => jm_wi_q a
  have G1 : (jm_wi (f, σ.2) m 1 (nI (hv S))).1 m 1 = nI (hv S) := jm_wi_at
  have hend : ∀ a, jMd g σ m a S (((jm_wi (f, σ.2) m 1 (nI (hv S))).1, σ.2), .inl (some (aI a))) := fun a => by
    refine jMd_mk hM (MF_fr hF (fun k hk => ?_)) (MD_fr hR.2.2.1 ((Gq _ (by omega)).trans (hq _ (by omega) (by omega) (by omega)))) (MS_fr hS (fun q a b => Gq q (by omega))) (MT_fr hG hT hT2) (fun q a => (Gq q (by omega)).trans (hq q (by omega) (by omega) (by omega)))
    by_cases e : k = 1
    · subst e; exact G1.trans hF.2.1.symm
    · exact (Gk k e).trans (hk1 k hk e)
  rcases hc with ⟨hc, f11, f12⟩ | hfl
  · subst hc
    cases b with
    | false =>
      refine jm_run ok_M_radical [] 90 (fun kk hk => ?_)
      conv => whnf
      rw [show (f, σ.2).1 m 0 = nI (hv S) from f0]
      refine b_z (b := false) ((Gk 12 (by decide)).trans f12) (fun _ => ?_) (fun h => by cases h)
      conv => whnf
      refine b_z (b := false) ((Gk 11 (by decide)).trans f11) (fun _ => ?_) (fun h => by cases h)
      conv => whnf
      refine b_z (b := false) rfl (fun _ => ?_) (fun h => by cases h)
      conv => whnf
      rw [hst]
      exact hk _ _ _ _ (r_M_radical_203 (hend _))
    | true =>
      refine jm_run ok_M_radical [] 90 (fun kk hk => ?_)
      conv => whnf
      rw [show (f, σ.2).1 m 0 = nI (hv S) from f0]
      refine b_z (b := false) ((Gk 12 (by decide)).trans f12) (fun _ => ?_) (fun h => by cases h)
      conv => whnf
      refine b_z (b := false) ((Gk 11 (by decide)).trans f11) (fun _ => ?_) (fun h => by cases h)
      conv => whnf
      refine b_z (b := true) rfl (fun h => by cases h) (fun _ => ?_)
      conv => whnf
      rw [hst]
      exact hk _ _ _ _ (r_M_radical_203 (hend _))
  · rcases hfl with ⟨hc, f12, f11⟩ | ⟨hc, f12, f11⟩ <;> subst hc
    · refine jm_run ok_M_radical [] 90 (fun kk hk => ?_)
      conv => whnf
      rw [show (f, σ.2).1 m 0 = nI (hv S) from f0]
      refine b_z (b := true) ((Gk 12 (by decide)).trans f12) (fun h => by cases h) (fun _ => ?_)
      conv => whnf
      rw [hst]
      exact hk _ _ _ _ (r_M_radical_203 (hend _))
    · refine jm_run ok_M_radical [] 90 (fun kk hk => ?_)
      conv => whnf
      rw [show (f, σ.2).1 m 0 = nI (hv S) from f0]
      refine b_z (b := false) ((Gk 12 (by decide)).trans f12) (fun _ => ?_) (fun h => by cases h)
      conv => whnf
      refine b_z (b := true) ((Gk 11 (by decide)).trans f11) (fun h => by cases h) (fun _ => ?_)
      conv => whnf
      rw [hst]
      exact hk _ _ _ _ (r_M_radical_203 (hend _))
set_option maxRecDepth 8000 in
theorem c_mradical {x y : Int32} (hR : MR g σ m S) (hG : GS S) : J g (d + 8) 126 0 [some (aR 6 m), some (aI x), some (aI y), none, none] [] σ (jMd g σ m (op_radical S x y).1 (op_radical S x y).2) := by
  have hM := hR.1
  obtain ⟨T, hS, hT⟩ := id hR.2.2.2
  have hF := hR.2.1
  have hgl := hG.2.2.2.1
  have hv4 := hG.1.2
  have e0 : (0 : Int32).toInt = 0 := rfl
  have e2 : (20000 : Int32).toInt = 20000 := rfl
  refine jm_run ok_M_radical [] 90 (fun kk hk => ?_)
  conv => whnf
  refine hk _ _ _ _ (k_M_radical_1 rfl c_misPlace (fun u hu => ?_))
  subst hu
  show J g (d + 8) 126 4 _ _ σ _
  unfold op_radical
  cases hx : sp_ip x with
  | false =>
    rw [if_neg (by decide)]
    refine jm_run ok_M_radical [] 90 (fun kk hk => ?_)
    conv => whnf
    refine b_nz (b := false) rfl (fun h => by cases h) (fun _ => ?_)
    conv => whnf
    exact hk _ _ _ _ (r_M_radical_8 (jMd_same hR))
  | true =>
    rw [if_pos rfl]
    obtain ⟨k, hk40, rfl⟩ := sp_ip_t hx
    rw [nI_clamp (n := k) (by omega)]
    cases hy : sp_is y with
    | false =>
      rw [if_neg (by decide)]
      have hy := of_decide_eq_false hy
      refine jm_run ok_M_radical [] 90 (fun kk hk => ?_)
      conv => whnf
      refine b_nz (b := true) rfl (fun _ => ?_) (fun h => by cases h)
      conv => whnf
      refine ⟨fun h1 => ?_, fun h1 => ?_⟩
      · conv => whnf
        exact hk _ _ _ _ (r_M_radical_22 (jMd_same hR))
      · have q1 : ¬ y.toInt < (0 : Int32).toInt := fun q => h1 (Int32.lt_iff_toInt_lt.mpr q)
        conv => whnf
        refine ⟨fun h2 => ?_, fun h2 => ?_⟩
        · have q2 := Int32.le_iff_toInt_le.mp h2
          exact absurd ⟨by omega, by omega⟩ hy
        · conv => whnf
          exact hk _ _ _ _ (r_M_radical_22 (jMd_same hR))
    | true =>
      rw [if_pos rfl]
      obtain ⟨lim, hlim, rfl⟩ := sp_is_t hy
      rw [nI_clamp (by omega)]
      by_cases h4 : hv S = 4
      · rw [if_pos h4]
        refine jm_run ok_M_radical [] 90 (fun kk hk => ?_)
        conv => whnf
        refine b_nz (b := true) rfl (fun _ => ?_) (fun h => by cases h)
        conv => whnf
        refine b_lt (a := lim) (b := 0) rfl rfl (fun h => by omega) (fun _ => ?_)
        conv => whnf
        refine b_le (a := lim) (b := 20000) rfl rfl (fun _ => ?_) (fun h => by omega)
        conv => whnf
        refine b_ne hF.1 (b := 4) rfl (fun q => absurd h4 q) (fun _ => ?_)
        conv => whnf
        exact hk _ _ _ _ (r_M_radical_33 (jMd_same hR))
      · rw [if_neg h4]
        have p1 := pg_ok hG hk40
        have e1 := hT.at hk40
        have fldk : ∀ (k : Nat), (jm_wi (jm_wi (jm_wi (jm_wi (jm_wi σ m 11 0) m 12 0) m 13 0) m 14 (nI lim)) m 1 (nI (hv S + 1))).1 m k = if k = 1 then nI (hv S + 1) else if k = 14 then nI lim else if k = 13 then 0 else if k = 12 then 0 else if k = 11 then 0 else σ.1 m k := by
          intro k
          simp only [jm_wi_1, true_and]
        have fldq : ∀ (q : Nat), q ≠ m → (jm_wi (jm_wi (jm_wi (jm_wi (jm_wi σ m 11 0) m 12 0) m 13 0) m 14 (nI lim)) m 1 (nI (hv S + 1))).1 q = σ.1 q := by
          intro q hq
          rw [jm_wi_q hq, jm_wi_q hq, jm_wi_q hq, jm_wi_q hq, jm_wi_q hq]
        have hst : jm_wi (jm_wi (jm_wi (jm_wi (jm_wi σ m 11 0) m 12 0) m 13 0) m 14 (nI lim)) m 1 (nI (hv S + 1)) = ((jm_wi (jm_wi (jm_wi (jm_wi (jm_wi σ m 11 0) m 12 0) m 13 0) m 14 (nI lim)) m 1 (nI (hv S + 1))).1, σ.2) := rfl
        have r0 : (jm_wi (jm_wi (jm_wi (jm_wi σ m 11 0) m 12 0) m 13 0) m 14 (nI lim)).1 m 0 = nI (hv S) := (jm_wi_k (by decide)).trans ((jm_wi_k (by decide)).trans ((jm_wi_k (by decide)).trans ((jm_wi_k (by decide)).trans hF.1)))
        refine jm_run ok_M_radical [] 90 (fun kk hk => ?_)
        conv => whnf
        refine b_nz (b := true) rfl (fun _ => ?_) (fun h => by cases h)
        conv => whnf
        refine b_lt (a := lim) (b := 0) rfl rfl (fun h => by omega) (fun _ => ?_)
        conv => whnf
        refine b_le (a := lim) (b := 20000) rfl rfl (fun _ => ?_) (fun h => by omega)
        conv => whnf
        refine b_ne hF.1 (b := 4) rfl (fun _ => ?_) (fun q => absurd q h4)
        conv => whnf
        refine ⟨Or.inl rfl, ?_⟩
        conv => whnf
        refine ⟨Or.inl rfl, ?_⟩
        conv => whnf
        rw [r0, nI_1, hst]
        generalize (jm_wi (jm_wi (jm_wi (jm_wi (jm_wi σ m 11 0) m 12 0) m 13 0) m 14 (nI lim)) m 1 (nI (hv S + 1))).1 = A at fldk fldq
        have A7 : A m 7 = nI (hgn S).length := by rw [fldk]; exact hF.2.2.2.1
        have hst2 : jm_wi (A, σ.2) (m + 4) (40 + (hgn S).length) 0 = ((jm_wi (A, σ.2) (m + 4) (40 + (hgn S).length) 0).1, σ.2) := rfl
        have hS1 := MS_nil (ρ := σ.2) (p := 40 + (hgn S).length) (MS_fr (f' := A) hS (fun q a b => fldq q (by omega)))
        have Bq : ∀ q, q ≠ m + 4 → (jm_wi (A, σ.2) (m + 4) (40 + (hgn S).length) 0).1 q = A q := fun q hq => jm_wi_q hq
        refine jg hM.size ?_
        conv => whnf
        rw [A7, show (40 : Int32) + nI (hgn S).length = nI (40 + (hgn S).length) from nI_add 40 _]
        refine jw rfl hM.l4 ?_
        conv => whnf
        rw [hst2]
        generalize (jm_wi (A, σ.2) (m + 4) (40 + (hgn S).length) 0).1 = B at hS1 Bq
        have Bm : B m = A m := Bq m (by omega)
        have mC : MC B m (hv S + 1) (hkd S) := ⟨(congrFun Bm 1).trans (by rw [fldk]; rfl), (congrFun Bm 2).trans (by rw [fldk]; exact hF.2.2.1), by omega, hG.2.1⟩
        refine hk _ _ _ _ (k_M_radical_84 rfl (c_mcomes (σ := (B, σ.2)) (d := d + 4) (p := 40 + (hgn S).length) (A := 1) (B := 1) (mo := sp_zm) hM mC hS1 (by omega) (by rw [tU_at]; exact sp_pw_nil) (by rw [tU_at]; exact HVp_nil _) (by decide) (by decide) sp_zm_ok (HV_zm _) ((congrFun Bm 11).trans (by rw [fldk]; rfl))) (fun u hu => ?_))
        obtain ⟨f2, l2, hf2, hS2, h6, hu⟩ := hu
        subst hu
        rw [tU_at, come_un] at h6
        rw [tU_tU] at hS2
        show J g (d + 8) 126 87 _ _ (f2, σ.2) _
        rcases h6.symm with ⟨h6, -⟩ | ⟨h6, f211⟩
        · cases h6
        have h6 := Option.some.inj h6
        subst h6
        have f2k : ∀ k, k ≠ 11 → k ≠ 16 → k ≠ 17 → f2 m k = A m k := fun k a b c => (hf2.2 k a b c).trans (congrFun Bm k)
        have f20 : f2 m 0 = nI (hv S) := (f2k 0 (by decide) (by decide) (by decide)).trans (by rw [fldk]; exact hF.1)
        have eg : tU T (40 + (hgn S).length) sp_un (40 + (hgn S).length) = sp_un := tU_at _ _ _
        have ek : tU T (40 + (hgn S).length) sp_un k = pg S k := (tU_ne (by omega)).trans e1
        refine jm_run ok_M_radical [] 90 (fun kk hk => ?_)
        conv => whnf
        rw [show (f2, σ.2).1 m 0 = nI (hv S) from f20, pvm_d (by omega)]
        refine hk _ _ _ _ (k_M_radical_100 rfl (c_madds (σ := (f2, σ.2)) (d := d + 3) (fs := 40 + (hgn S).length) (gs := k) (A := -1) (B := 1) (mo := pvm (hv S)) hM (hf2.mc mC) hS2 (by omega) (by omega) (by omega) (by rw [eg]; exact sp_un_w) (by rw [eg]; exact HVp_un _) (by rw [ek]; exact p1.1) (by rw [ek]; exact HVp_le p1.2.2 (by omega)) sp_cfm (pvm_ok _) (pvm_HV (by omega)) f211) (fun u hu => ?_))
        obtain ⟨f3, l3, hf3, hS3, h6, hu⟩ := hu
        subst hu
        rw [eg, ek] at h6
        rw [tU_tU] at hS3
        have f3k : ∀ k, k ≠ 11 → k ≠ 16 → k ≠ 17 → f3 m k = A m k := fun k a b c => (hf3.2 k a b c).trans (f2k k a b c)
        have f3q : ∀ q, ¬ (m ≤ q ∧ q ≤ m + 4) → f3 q = σ.1 q := fun q hq => (hf3.1 q hq).trans ((hf2.1 q hq).trans ((Bq q (by omega)).trans (fldq q (by omega))))
        have A10 : ∀ k, k ≤ 10 → k ≠ 1 → A m k = σ.1 m k := fun k a b => by rw [fldk, if_neg b, if_neg (by omega), if_neg (by omega), if_neg (by omega), if_neg (by omega)]
        have f312 : f3 m 12 = 0 := (f3k 12 (by decide) (by decide) (by decide)).trans (by rw [fldk]; rfl)
        show J g (d + 8) 126 103 _ _ (f3, σ.2) _
        rcases h6.symm with ⟨h6, f311⟩ | ⟨h6, f311⟩
        · rw [h6]
          show J g (d + 8) 126 103 _ _ (f3, σ.2) (jMd g σ m (-7) S)
          refine jm_run ok_M_radical [159] 90 (fun kk hk => ?_)
          conv => whnf
          refine b_nz (b := true) f311 (fun _ => ?_) (fun h => by cases h)
          conv => whnf
          refine b_nz (b := true) f311 (fun _ => ?_) (fun h => by cases h)
          conv => whnf
          exact hk _ _ _ _ (c_mradF (b := false) hR hG hT (fun k a b => (f3k k (by omega) (by omega) (by omega)).trans (A10 k a b)) (fun q a _ _ => f3q q a) hS3 (fun q hq => tU_ne (by unfold ks at hq; omega)) (Or.inr (Or.inr ⟨rfl, f312, f311⟩)))
        · rw [h6]
          show J g (d + 8) 126 103 _ _ (f3, σ.2) (jMd g σ m (sp_rad (sp_bas (hkd S) 0 (hgn S ++ [l3]) lim)) S)
          have hlw : sp_pw l3 := sp_plus_w sp_cfm sp_un_w p1.1.2 h6
          have hls : so (hkd S) l3 := (so_plus sp_cfm (so_un _) sp_un_w p1.1.2 h6).1
          have hlv : HVp (hv S + 1) l3 := HVp_plus (pvm_HV (by omega)) (HVp_un _) (HVp_le p1.2.2 (by omega)) h6
          have hgg : ∀ i p, (hgn S ++ [l3])[i]? = some p → tU T (40 + (hgn S).length) l3 (40 + i) = p ∧ sp_pw p ∧ so (hkd S) p ∧ HVp (hv S + 1) p := by
            intro i p hp
            by_cases hi : i < (hgn S).length
            · rw [List.getElem?_append_left hi] at hp
              have h1 := hG.2.2.2.2.2.1 p (List.mem_of_getElem? hp)
              exact ⟨(tU_ne (by omega)).trans (hT.2.1 i p hp), h1.1, h1.2.1, HVp_le h1.2.2 (by omega)⟩
            · have h1 := (List.getElem?_eq_some_iff.mp hp).1
              rw [List.length_append] at h1
              have h1 : i < (hgn S).length + 1 := h1
              obtain rfl : i = (hgn S).length := by omega
              rw [List.getElem?_append_right (Nat.le_refl _), Nat.sub_self] at hp
              cases hp
              exact ⟨tU_at _ _ _, hlw, hls, hlv⟩
          have hgn1 : (hgn S ++ [l3]).length = (hgn S).length + 1 := by rw [List.length_append]; rfl
          have f37 : f3 m 7 = nI (hgn S).length := (f3k 7 (by decide) (by decide) (by decide)).trans A7
          refine jm_run ok_M_radical [] 90 (fun kk hk => ?_)
          conv => whnf
          refine b_nz (b := false) f311 (fun h => by cases h) (fun _ => ?_)
          conv => whnf
          rw [show (f3, σ.2).1 m 7 = nI (hgn S).length from f37, nI_1, ← hgn1]
          refine hk _ _ _ _ (k_M_radical_120 rfl (c_mmake (σ := (f3, σ.2)) (d := d) (base := 75) (ws := false) (n := hv S + 1) (j := hkd S) (gl := hgn S ++ [l3]) (lim := lim) hM (hf3.mc (hf2.mc mC)) hS3 (Or.inr rfl) f37 hgl ((f3k 14 (by decide) (by decide) (by decide)).trans (by rw [fldk]; rfl)) (by omega) f311 f312 ((f3k 13 (by decide) (by decide) (by decide)).trans (by rw [fldk]; rfl)) (by omega) hgg) (fun u hu => ?_))
          have hu : jMk (f3, σ.2) m (tU T (40 + (hgn S).length) l3) 75 0 lim (sp_bas (hkd S) 0 (hgn S ++ [l3]) lim) u := hu
          have hSEo := fun mm pr ps bf els (h : sp_bas (hkd S) 0 (hgn S ++ [l3]) lim = (mm, (pr, (ps, (bf, .inr els))))) => SE_bas (v := hv S + 1) (by omega) (fun p hp => by obtain ⟨i, hi⟩ := List.mem_iff_getElem?.mp hp; exact (hgg i p hi).2) h
          generalize sp_bas (hkd S) 0 (hgn S ++ [l3]) lim = O at hu hSEo ⊢
          obtain ⟨on, pr, ps, bf, o2⟩ := O
          obtain ⟨f4, T4, hQ4, hS4, f413, f424, f425, f426, h7, hu⟩ := hu
          subst hu
          have f4k : ∀ k, k ≤ 10 → k ≠ 1 → f4 m k = σ.1 m k := fun k a b => (hQ4.2.1 k (by unfold kf; omega) (by omega) (by omega)).trans ((f3k k (by omega) (by omega) (by omega)).trans (A10 k a b))
          have f4q : ∀ q, ¬ (m ≤ q ∧ q ≤ m + 4) → q ≠ m + 7 → q ≠ m + 8 → f4 q = σ.1 q := fun q a b c => (hQ4.1 q a b c).trans (f3q q a)
          have hT4 : ∀ q, ks S q → T4 q = T q := fun q hq => (hQ4.2.2 q (by unfold ks at hq; unfold sl; omega)).trans (tU_ne (by unfold ks at hq; omega))
          show J g (d + 8) 126 123 _ _ (f4, σ.2) _
          rcases h7 with ⟨els, ho, hPL, f420, f411, f412⟩ | ⟨c, ho, hfl⟩
          · have ho : o2 = .inr els := ho
            subst ho
            have hSE := (hSEo _ _ _ _ _ rfl).1
            have hl24 := hSE.2.1
            have hGl := sp_G_len els
            show J g (d + 8) 126 123 _ _ (f4, σ.2) (jMd g σ m (sp_bi (decide (els.length = 1 ∧ gl (sp_G els) 0 = sp_zm))) S)
            by_cases h1 : els.length = 1
            · have hMG := (SE_mg hPL hSE).gl (i := 0) (by omega)
              refine jm_run ok_M_radical [] 90 (fun kk hk => ?_)
              conv => whnf
              refine b_nz (b := false) f411 (fun h => by cases h) (fun _ => ?_)
              conv => whnf
              refine b_nz (b := false) f412 (fun h => by cases h) (fun _ => ?_)
              conv => whnf
              refine b_ne f420 (b := 1) rfl (fun q => absurd h1 q) (fun _ => ?_)
              conv => whnf
              refine hk _ _ _ _ (k_M_radical_148 rfl (c_mlead (σ := (f4, σ.2)) (p := 75) hM hS4 (by omega) hMG.2.1) (fun u hu => ?_))
              subst hu
              have hld : sp_ld (T4 75) = gl (sp_G els) 0 := hMG.1
              rw [hld]
              show J g (d + 8) 126 151 _ _ (f4, σ.2) _
              have h5 := sp_5_lt hMG.2.2.1
              refine jm_run ok_M_radical [159] 90 (fun kk hk => ?_)
              conv => whnf
              refine b_ne (a := sp_5 (gl (sp_G els) 0)) (b := 0) rfl rfl (fun h2 => ?_) (fun h2 => ?_)
              · conv => whnf
                exact hk _ _ _ _ (c_mradF (b := false) hR hG hT f4k f4q hS4 hT4 (Or.inl ⟨congrArg sp_bi (decide_eq_false (fun q => h2 ((sp_d0 hMG.2.2.1).mpr q.2))), f411, f412⟩))
              · conv => whnf
                exact hk _ _ _ _ (c_mradF (b := true) hR hG hT f4k f4q hS4 hT4 (Or.inl ⟨congrArg sp_bi (decide_eq_true ⟨h1, (sp_d0 hMG.2.2.1).mp h2⟩), f411, f412⟩))
            · rw [show decide (els.length = 1 ∧ gl (sp_G els) 0 = sp_zm) = false from decide_eq_false (fun q => h1 q.1)]
              refine jm_run ok_M_radical [159] 90 (fun kk hk => ?_)
              conv => whnf
              refine b_nz (b := false) f411 (fun h => by cases h) (fun _ => ?_)
              conv => whnf
              refine b_nz (b := false) f412 (fun h => by cases h) (fun _ => ?_)
              conv => whnf
              refine b_ne f420 (b := 1) rfl (fun _ => ?_) (fun q => absurd q h1)
              conv => whnf
              exact hk _ _ _ _ (c_mradF (b := false) hR hG hT f4k f4q hS4 hT4 (Or.inl ⟨rfl, f411, f412⟩))
          · have ho : o2 = .inl c := ho
            subst ho
            show J g (d + 8) 126 123 _ _ (f4, σ.2) (jMd g σ m c S)
            have fin := fun z4 => c_mradF (g := g) (d := d) (σ := σ) (m := m) (S := S) (x1 := nI k) (x2 := nI lim) (x3 := nI (40 + (hgn S).length)) (c := c) (b := false) (z4 := z4) hR hG hT f4k f4q hS4 hT4 (Or.inr hfl)
            rcases id hfl with ⟨hc, f412, f411⟩ | ⟨hc, f412, f411⟩
            · refine jm_run ok_M_radical [159] 90 (fun kk hk => ?_)
              conv => whnf
              refine b_nz (b := false) f411 (fun h => by cases h) (fun _ => ?_)
              conv => whnf
              refine b_nz (b := true) f412 (fun _ => ?_) (fun h => by cases h)
              conv => whnf
              exact hk _ _ _ _ (fin _)
            · refine jm_run ok_M_radical [159] 90 (fun kk hk => ?_)
              conv => whnf
              refine b_nz (b := true) f411 (fun _ => ?_) (fun h => by cases h)
              conv => whnf
              exact hk _ _ _ _ (fin _)
end
