/-! THE MODEL: divide -/
section
variable {g : jm_G} {d : Nat} {σ : jm_S} {m : Nat} {S : sp_H}
theorem c_mdivide {x y : Int32} (hR : MR g σ m S) (hG : GS S) : J g (d + 6) 122 0 [some (aR 6 m), some (aI x), some (aI y), none] [] σ (jMd g σ m (op_divide S x y).1 (op_divide S x y).2) := by
  have hM := hR.1
  obtain ⟨T, hS, hT⟩ := hR.2.2.2
  have hF := hR.2.1
  have hgl := hG.2.2.2.1
  have hGo := GS_divide (x := x) (y := y) hG
  refine jm_run ok_M_divide [] 90 (fun kk hk => ?_)
  conv => whnf
  refine hk _ _ _ _ (k_M_divide_1 rfl c_misPlace (fun u hu => ?_))
  subst hu
  show J g (d + 6) 122 4 _ _ σ _
  unfold op_divide at hGo ⊢
  cases hx : sp_ip x with
  | false =>
    rw [if_neg (fun q => by cases q.1)]
    refine jm_run ok_M_divide [] 90 (fun kk hk => ?_)
    conv => whnf
    refine b_z (b := false) rfl (fun _ => ?_) (fun h => by cases h)
    conv => whnf
    exact hk _ _ _ _ (r_M_divide_15 (jMd_same hR))
  | true =>
    refine jm_run ok_M_divide [] 90 (fun kk hk => ?_)
    conv => whnf
    refine b_z (b := true) rfl (fun h => by cases h) (fun _ => ?_)
    conv => whnf
    refine hk _ _ _ _ (k_M_divide_8 rfl c_misPlace (fun u hu => ?_))
    subst hu
    show J g (d + 6) 122 11 _ _ σ _
    cases hy : sp_ip y with
    | false =>
      rw [if_neg (fun q => by cases q.2)]
      refine jm_run ok_M_divide [] 90 (fun kk hk => ?_)
      conv => whnf
      refine b_nz (b := false) rfl (fun h => by cases h) (fun _ => ?_)
      conv => whnf
      exact hk _ _ _ _ (r_M_divide_15 (jMd_same hR))
    | true =>
      rw [hx, hy, if_pos ⟨rfl, rfl⟩] at hGo
      rw [if_pos ⟨rfl, rfl⟩]
      obtain ⟨k, hk40, rfl⟩ := sp_ip_t hx
      obtain ⟨r, hr40, rfl⟩ := sp_ip_t hy
      rw [nI_clamp (n := k) (by omega), nI_clamp (n := r) (by omega)] at hGo ⊢
      cases hb : hB S with
      | false =>
        rw [if_neg (by decide)]
        have h9 : σ.1 m 9 = sp_bi false := by rw [hF.2.2.2.2.1, hb]
        refine jm_run ok_M_divide [] 90 (fun kk hk => ?_)
        conv => whnf
        refine b_nz (b := true) rfl (fun _ => ?_) (fun h => by cases h)
        conv => whnf
        refine b_nz h9 (fun h => by cases h) (fun _ => ?_)
        conv => whnf
        exact hk _ _ _ _ (r_M_divide_25 (jMd_same hR))
      | true =>
        rw [hb, if_pos rfl] at hGo
        rw [if_pos rfl]
        have h9 : σ.1 m 9 = sp_bi true := by rw [hF.2.2.2.2.1, hb]
        have h8 := hF.2.2.2.2.2.2 hb
        have hl24 := hG.el24 hb
        have hSE := (hG.2.2.2.2.2.2.1 hb).1
        have p1 := pg_ok hG hk40
        have hGl := sp_G_len (hel S)
        refine jm_run ok_M_divide [] 90 (fun kk hk => ?_)
        conv => whnf
        refine b_nz (b := true) rfl (fun _ => ?_) (fun h => by cases h)
        conv => whnf
        refine b_nz h9 (fun _ => ?_) (fun h => by cases h)
        conv => whnf
        refine hk _ _ _ _ (k_M_divide_27 rfl c_mown (fun u hu => ?_))
        obtain ⟨F, Fq, F19, F20, F21, F11, F12, F13, F10, hu⟩ := hu
        subst hu
        show J g (d + 6) 122 30 _ _ (F, σ.2) _
        have hst : jm_wi (F, σ.2) m 14 5000 = ((jm_wi (F, σ.2) m 14 5000).1, σ.2) := rfl
        have A14 : (jm_wi (F, σ.2) m 14 5000).1 m 14 = nI 5000 := jm_wi_at
        have Ak : ∀ k, k ≠ 14 → (jm_wi (F, σ.2) m 14 5000).1 m k = F m k := fun k a => jm_wi_k a
        have Aq : ∀ q, q ≠ m → (jm_wi (F, σ.2) m 14 5000).1 q = σ.1 q := fun q a => (jm_wi_q a).trans (Fq q a)
        refine jm_run ok_M_divide [] 90 (fun kk hk => ?_)
        conv => whnf
        rw [hst]
        generalize (jm_wi (F, σ.2) m 14 5000).1 = A at A14 Ak Aq
        refine hk _ _ _ _ (k_M_divide_42 rfl (c_mcopy (σ := (A, σ.2)) (a := k) (b := 151) hM (MS_fr hS (fun q a b => Aq q (by omega))) (by omega) (by omega) (by omega)) (fun u hu => ?_))
        obtain ⟨f1, hf1, hS1, hu⟩ := hu
        subst hu
        rw [hT.at hk40] at hS1
        have f1m : f1 m = A m := hf1 m (by omega)
        have o : ∀ k, k ≠ 14 → f1 m k = F m k := fun k a => (congrFun f1m k).trans (Ak k a)
        show J g (d + 6) 122 45 _ _ (f1, σ.2) _
        have hMG : MG (tU T 151 (pg S k)) 50 (hv S) (sp_G (hel S)) := SE_mg (PL5_fr (hT.2.2.1 hb) (by omega) hgl (fun q a b => tU_ne (by omega)) (fun q a b => tU_ne (by omega))) hSE
        refine jm_run ok_M_divide [] 90 (fun kk hk => ?_)
        conv => whnf
        refine hk _ _ _ _ (k_M_divide_52 rfl (c_mdivided (σ := (f1, σ.2)) (d := d) (base := 50) (bt := 1000) (c := 0) (lim := 5000) (G := sp_G (hel S)) (w := pg S k) (n := hv S) (j := hkd S) hM ⟨(o 1 (by decide)).trans ((F10 1 (by decide)).trans hF.2.1), (o 2 (by decide)).trans ((F10 2 (by decide)).trans hF.2.2.1), by have := hG.1.2; omega, hG.2.1⟩ hS1 (Or.inl rfl) ((o 19 (by decide)).trans F19) ?_ (by omega) ((o 21 (by decide)).trans F21) ?_ hMG (tU_at _ _ _) p1.1 p1.2.2 ((o 11 (by decide)).trans F11) ((o 12 (by decide)).trans F12) ((o 13 (by decide)).trans F13) ((congrFun f1m 14).trans A14) (by omega) (by omega)) (fun u hu => ?_))
        · rw [hGl]; exact (o 20 (by decide)).trans (F20.trans h8)
        · intro i hi
          refine ⟨fun e => ?_, fun e => by omega⟩
          have : (nI i).toInt = (-1 : Int32).toInt := by rw [e]
          rw [nI_toInt (by omega), show (-1 : Int32).toInt = -1 from rfl] at this
          omega
        rw [show 5000 - 0 = 5000 from rfl] at hu
        generalize sp_dl (hkd S) (sp_G (hel S)) 1000 5000 (pg S k) (List.replicate (sp_G (hel S)).length []) [] = O at hu hGo ⊢
        obtain ⟨f2, T2, hf2, hS2, hT2, f213, hle, h6, hu⟩ := hu
        subst hu
        show J g (d + 6) 122 55 _ _ (f2, σ.2) _
        have hT2' : MT T2 S := MT_fr hG hT (fun q hq => (hT2 q (by unfold ks at hq; omega) (by unfold ks at hq; omega) (by unfold ks at hq; omega)).trans (tU_ne (by unfold ks at hq; omega)))
        have f2k : ∀ k, k ≤ 10 → f2 m k = σ.1 m k := fun k hk => (hf2.2 k (by omega) (by omega) (by omega) (by omega) (by omega)).trans ((o k (by omega)).trans (F10 k hk))
        have f2q : ∀ q, ¬ (m ≤ q ∧ q ≤ m + 4) → f2 q = σ.1 q := fun q hq => (hf2.1 q hq).trans ((hf1 q (by omega)).trans (Aq q (by omega)))
        obtain ⟨on, o2⟩ := O
        rcases h6 with ⟨qs, rest, ho, f211, f212, hrest, hqs⟩ | ⟨c, ho, hfl⟩
        · have ho : o2 = .inr (qs, rest) := ho
          subst ho
          have hkq : hB S = true → decide (rest.length = 0) = true → qs.length = (hel S).length := fun hb hq0 => (hGo.2.2.2.2.2.2.2 hb hq0).1
          show J g (d + 6) 122 55 _ _ (f2, σ.2) (jMd g σ m (sp_bi (decide (rest.length = 0))) (S.1, (((hpl S).set r rest, hgn S), ((hel S, (hB S, decide (rest.length = 0))), (qs, hct S)))))
          refine jm_run ok_M_divide [] 90 (fun kk hk => ?_)
          conv => whnf
          refine b_nz (b := false) f212 (fun h => by cases h) (fun _ => ?_)
          conv => whnf
          refine b_z (b := false) f211 (fun _ => ?_) (fun h => by cases h)
          conv => whnf
          refine hk _ _ _ _ (k_M_divide_89 rfl (c_mcopy (σ := (f2, σ.2)) (a := 152) (b := r) hM hS2 (by omega) (by omega) (by omega)) (fun u hu => ?_))
          obtain ⟨f3, hf3, hS3, hu⟩ := hu
          subst hu
          rw [hrest] at hS3
          have hz := hS3.sz (p := r) (by omega)
          rw [tU_at] at hz
          have hrl : rest.length ≤ 100 := by have := (hS3 r (by omega)).1; rw [tU_at] at this; exact this
          have f3m : f3 m = f2 m := hf3 m (by omega)
          show J g (d + 6) 122 92 _ _ (f3, σ.2) _
          have main : ∀ bq : Bool, bq = decide (rest.length = 0) → J g (d + 6) 122 107 [some (aR 6 m), some (aI (nI k)), some (aI (nI r)), none] [aI (sp_bi bq), aR 6 m] (f3, σ.2) (jMd g σ m (sp_bi bq) (S.1, (((hpl S).set r rest, hgn S), ((hel S, (hB S, bq)), (qs, hct S))))) := by
            intro bq hbq
            have hst2 : jm_wi (f3, σ.2) m 10 (sp_bi bq) = ((jm_wi (f3, σ.2) m 10 (sp_bi bq)).1, σ.2) := rfl
            have B10 : (jm_wi (f3, σ.2) m 10 (sp_bi bq)).1 m 10 = sp_bi bq := jm_wi_at
            have Bk : ∀ k, k ≠ 10 → (jm_wi (f3, σ.2) m 10 (sp_bi bq)).1 m k = f3 m k := fun k a => jm_wi_k a
            have Bq : ∀ q, q ≠ m → (jm_wi (f3, σ.2) m 10 (sp_bi bq)).1 q = f3 q := fun q a => jm_wi_q a
            have loop : ∀ (B : Nat → Nat → Int32), B m 10 = sp_bi bq → (∀ k, k ≠ 10 → B m k = f3 m k) → (∀ q, q ≠ m → B q = f3 q) → ∀ (n e : Nat), e + n = 25 → ∀ f : Nat → Nat → Int32, (∀ q, ¬ (m + 1 ≤ q ∧ q ≤ m + 4) → f q = B q) → MS f m (cpy (tU T2 r rest) 100 125 e) → J g (d + 6) 122 112 [some (aR 6 m), some (aI (nI k)), some (aI (nI r)), some (aI (nI e))] [] (f, σ.2) (jMd g σ m (sp_bi bq) (S.1, (((hpl S).set r rest, hgn S), ((hel S, (hB S, bq)), (qs, hct S))))) := by
              intro B B10 Bk Bq n
              induction n with
              | zero =>
                intro e he f hf hSf
                obtain rfl : e = 25 := by omega
                have fm : f m = B m := hf m (by omega)
                have fk : ∀ k, k ≤ 10 → k ≠ 10 → f m k = σ.1 m k := fun k a b => (congrFun fm k).trans ((Bk k b).trans ((congrFun f3m k).trans (f2k k a)))
                have hMT := MT_set hG hT2' (p := rest) hr40
                have hend : jMd g σ m (sp_bi bq) (S.1, (((hpl S).set r rest, hgn S), ((hel S, (hB S, bq)), (qs, hct S)))) ((f, σ.2), .inl (some (aI (sp_bi bq)))) := by
                  refine jMd_mk hM ⟨(fk 0 (by decide) (by decide)).trans hF.1, (fk 1 (by decide) (by decide)).trans hF.2.1, (fk 2 (by decide) (by decide)).trans hF.2.2.1, (fk 7 (by decide) (by decide)).trans hF.2.2.2.1, (fk 9 (by decide) (by decide)).trans hF.2.2.2.2.1, (congrFun fm 10).trans B10, fun hb => (fk 8 (by decide) (by decide)).trans (hF.2.2.2.2.2.2 hb)⟩ (MD_fr (S := S) hR.2.2.1 ((hf _ (by omega)).trans ((Bq _ (by omega)).trans ((hf3 _ (by omega)).trans (f2q _ (by omega)))))) hSf ⟨fun k hk => (cpy_o (by omega)).trans (hMT.1 k hk), fun i p hp => ?_, fun hb' => PL5_fr (hMT.2.2.1 hb') (by show (hel S).length ≤ 25; omega) hgl (fun q a b => cpy_o (by omega)) (fun q a b => cpy_o (by omega)), fun hb' hq' i p hp => ?_⟩ (fun q hq => (hf q (by omega)).trans ((Bq q (by omega)).trans ((hf3 q (by omega)).trans (f2q q (by omega)))))
                  · have hi := (List.getElem?_eq_some_iff.mp hp).1
                    have hi : i < (hgn S).length := hi
                    exact (cpy_o (by omega)).trans (hMT.2.1 i p hp)
                  · have hp : qs[i]? = some p := hp
                    have hi := (List.getElem?_eq_some_iff.mp hp).1
                    have hq' : bq = true := hq'
                    have := hkq hb (by rw [← hbq]; exact hq')
                    rw [cpy_i (by omega), tU_ne (by omega)]
                    exact hqs i p hp
                cases bq with
                | false =>
                  refine jm_run ok_M_divide [112] 90 (fun kk hk => ?_)
                  conv => whnf
                  refine b_le (a := 25) (b := 25) rfl rfl (fun _ => ?_) (fun h => by omega)
                  conv => whnf
                  refine b_z (b := false) ((congrFun fm 10).trans B10) (fun _ => ?_) (fun h => by cases h)
                  conv => whnf
                  exact hk _ _ _ _ (r_M_divide_148 hend)
                | true =>
                  refine jm_run ok_M_divide [112] 90 (fun kk hk => ?_)
                  conv => whnf
                  refine b_le (a := 25) (b := 25) rfl rfl (fun _ => ?_) (fun h => by omega)
                  conv => whnf
                  refine b_z (b := true) ((congrFun fm 10).trans B10) (fun h => by cases h) (fun _ => ?_)
                  conv => whnf
                  exact hk _ _ _ _ (r_M_divide_148 hend)
              | succ n ih =>
                intro e he f hf hSf
                refine jm_run ok_M_divide [112] 90 (fun kk hk => ?_)
                conv => whnf
                refine b_le (a := 25) (b := e) rfl rfl (fun h => by omega) (fun _ => ?_)
                conv => whnf
                rw [show (125 : Int32) + nI e = nI (125 + e) from nI_add 125 e, show (100 : Int32) + nI e = nI (100 + e) from nI_add 100 e]
                refine hk _ _ _ _ (k_M_divide_127 rfl (c_mcopy (σ := (f, σ.2)) (a := 100 + e) (b := 125 + e) hM hSf (by omega) (by omega) (by omega)) (fun u hu => ?_))
                obtain ⟨f4, hf4, hS4, hu⟩ := hu
                subst hu
                rw [cpy_s (by omega)] at hS4
                show J g (d + 6) 122 130 _ _ (f4, σ.2) _
                refine jm_run ok_M_divide [112] 90 (fun kk hk => ?_)
                conv => whnf
                rw [nI_1]
                exact hk _ _ _ _ (ih (e + 1) (by omega) f4 (fun q hq => (hf4 q hq).trans (hf q hq)) hS4)
            refine jm_run ok_M_divide [112] 90 (fun kk hk => ?_)
            conv => whnf
            refine ⟨sp_bi_01 bq, ?_⟩
            conv => whnf
            rw [hst2]
            exact hk _ _ _ _ (loop _ B10 Bk Bq 25 0 (by omega) _ (fun _ _ => rfl) (by rw [cpy_0]; exact MS_fr hS3 (fun q a b => Bq q (by omega))))
          by_cases hr0 : rest.length = 0
          · rw [show decide (rest.length = 0) = true from decide_eq_true hr0]
            refine jm_run ok_M_divide [107] 90 (fun kk hk => ?_)
            conv => whnf
            refine jg hM.size ?_
            conv => whnf
            refine ja rfl hM.l4 hz ?_
            conv => whnf
            refine b_ne (b := 0) rfl rfl (fun h => absurd hr0 h) (fun _ => ?_)
            conv => whnf
            exact hk _ _ _ _ (main true (decide_eq_true hr0).symm)
          · rw [show decide (rest.length = 0) = false from decide_eq_false hr0]
            refine jm_run ok_M_divide [107] 90 (fun kk hk => ?_)
            conv => whnf
            refine jg hM.size ?_
            conv => whnf
            refine ja rfl hM.l4 hz ?_
            conv => whnf
            refine b_ne (b := 0) rfl rfl (fun _ => ?_) (fun h => absurd h hr0)
            conv => whnf
            exact hk _ _ _ _ (main false (decide_eq_false hr0).symm)
        · have ho : o2 = .inl c := ho
          subst ho
          show J g (d + 6) 122 55 _ _ (f2, σ.2) (jMd g σ m c S)
          have hend : ∀ c, jMd g σ m c S ((f2, σ.2), .inl (some (aI c))) := fun c => jMd_mk hM (MF_fr hF f2k) (MD_fr hR.2.2.1 (f2q _ (by omega))) hS2 hT2' (fun q hq => f2q q (by omega))
          rcases hfl with ⟨hc, f212, f211⟩ | ⟨hc, f212, f211⟩ <;> subst hc
          · refine jm_run ok_M_divide [] 90 (fun kk hk => ?_)
            conv => whnf
            refine b_nz (b := true) f212 (fun _ => ?_) (fun h => by cases h)
            conv => whnf
            refine b_z (b := true) f212 (fun h => by cases h) (fun _ => ?_)
            conv => whnf
            exact hk _ _ _ _ (r_M_divide_83 (hend _))
          · refine jm_run ok_M_divide [] 90 (fun kk hk => ?_)
            conv => whnf
            refine b_nz (b := false) f212 (fun h => by cases h) (fun _ => ?_)
            conv => whnf
            refine b_z (b := true) f211 (fun h => by cases h) (fun _ => ?_)
            conv => whnf
            refine b_z (b := false) f212 (fun _ => ?_) (fun h => by cases h)
            conv => whnf
            exact hk _ _ _ _ (r_M_divide_83 (hend _))
end
