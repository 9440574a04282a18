/-! the House: divide -/
theorem sp_dl_neg {j : Nat} {G : List sp_P} {bt : Nat} : ∀ {n n' : Nat} {w rest : sp_P} {qs : List sp_P} {c : Int32}, sp_dl j G bt n w qs rest = (n', .inl c) → c = -6 ∨ c = -7
  | n, n', [], rest, qs, c, h => by rw [sp_dl] at h; cases h
  | 0, n', t :: w, rest, qs, c, h => by rw [sp_dl] at h; cases h; exact Or.inl rfl
  | n + 1, n', t :: w, rest, qs, c, h => by
    rw [sp_dl] at h
    split at h
    · split at h
      · cases h; exact Or.inr rfl
      · exact sp_dl_neg h
    · split at h
      · cases h; exact Or.inr rfl
      · split at h
        · cases h; exact Or.inr rfl
        · split at h
          · cases h; exact Or.inr rfl
          · exact sp_dl_neg h
/-- the state behind a division -/
def sp_dv2 (S : sp_H) (r : Nat) (o : Nat × (Int32 ⊕ (List sp_P × sp_P))) : Int32 × sp_H := match o.2 with
  | .inl c => (c, S)
  | .inr qr => (sp_bi (decide (qr.2.length = 0)), (S.1, (((hpl S).set r qr.2, hgn S), ((hel S, (hB S, decide (qr.2.length = 0))), (qr.1, hct S)))))
def op_divide (S : sp_H) (x y : Int32) : Int32 × sp_H := if sp_ip x = true ∧ sp_ip y = true then (if hB S = true then sp_dv2 S y.toNatClampNeg (sp_dl (hkd S) (sp_G (hel S)) 1000 5000 (pg S x.toNatClampNeg) (List.replicate (sp_G (hel S)).length []) []) else (-3, S)) else (-1, S)
theorem GS_divide {S : sp_H} {x y : Int32} (hG : GS S) : GS (op_divide S x y).2 := by
  unfold op_divide
  split
  · rename_i hxy
    split
    · rename_i hb
      obtain ⟨k, hk40, rfl⟩ := sp_ip_t hxy.1
      rw [nI_clamp (by omega)]
      obtain ⟨a1, a2, a3, a4, a5, a6, a7, a8⟩ := id hG
      have hSE := (a7 hb).1
      have hp := pg_ok hG hk40
      obtain ⟨m, o, hd⟩ : ∃ m o, sp_dl (hkd S) (sp_G (hel S)) 1000 5000 (pg S k) (List.replicate (sp_G (hel S)).length []) [] = (m, o) := ⟨_, _, rfl⟩
      rw [hd]
      cases o with
      | inl c => exact hG
      | inr qr =>
        have hGl : (sp_G (hel S)).length = (hel S).length := by rw [sp_G, List.length_map]
        have d1 := so_dl hSE.1.G 4611686018427387904 hp.1 hp.2.1 (fun t ht => sp_key_lt (hp.1.2 t ht).2.2.2.2 _) sp_pw_nil (so_nil _) (fun t ht => (by cases ht)) hd
        have d2 := sp_dl_qw (fun p hp => (hSE.1.G p hp).2) hp.1 (fun p hp => by rw [List.mem_replicate] at hp; rw [hp.2]; exact sp_pw_nil) hd
        have d3 := HVp_dl hSE.G hp.2.2 HVp_rep (HVp_nil _) hd
        have d4 := sp_dl_len hd
        refine ⟨a1, a2, ?_, a4, fun p hp => ?_, a6, a7, fun _ _ => ⟨?_, fun p hp => ⟨d2 p hp, d3.1 p hp⟩⟩⟩
        · show ((hpl S).set _ qr.2).length = 40
          rw [List.length_set]; exact a3
        · rcases List.mem_or_eq_of_mem_set (show p ∈ (hpl S).set _ qr.2 from hp) with e | e
          · exact a5 p e
          · subst e; exact ⟨d1.1, d1.2.1, d3.2⟩
        · show qr.1.length = (hel S).length
          rw [d4, List.length_replicate, hGl]
    · exact hG
  · exact hG
section
variable {g : jm_G} {d : Nat} {σ τ : jm_S} {h : Nat} {S : sp_H}
theorem c_divide2 {x y : Int32} (hR : HR g σ h S) (hG : GS S) (hr : sp_rm g σ) (hh : h + 1631 ≤ σ.2.2.1) : J g (d + 9) 67 0 [some (aR 1 h), some (aI x), some (aI y), none, none, none, none] [] σ (jH g σ h (op_divide S x y).1 (op_divide S x y).2) := by
  have hH := hR.1
  have hGo := GS_divide (x := x) (y := y) hG
  refine jm_run ok_H_divide [] 90 (fun kk hk => ?_)
  conv => whnf
  refine hk _ _ _ _ (k_H_divide_1 rfl c_isPlace (fun u hu => ?_))
  subst hu
  show J g (d + 9) 67 4 _ _ σ _
  unfold op_divide at hGo ⊢
  cases hx : sp_ip x with
  | false =>
    rw [if_neg (fun q => by cases q.1)]
    refine jm_run ok_H_divide [] 90 (fun kk hk => ?_)
    conv => whnf
    refine b_z (b := false) rfl (fun _ => ?_) (fun h => by cases h)
    conv => whnf
    exact hk _ _ _ _ (r_H_divide_15 (jH_same hR))
  | true =>
    refine jm_run ok_H_divide [] 90 (fun kk hk => ?_)
    conv => whnf
    refine b_z (b := true) rfl (fun h => by cases h) (fun _ => ?_)
    conv => whnf
    refine hk _ _ _ _ (k_H_divide_8 rfl c_isPlace (fun u hu => ?_))
    subst hu
    show J g (d + 9) 67 11 _ _ σ _
    cases hy : sp_ip y with
    | false =>
      rw [if_neg (fun q => by cases q.2)]
      refine jm_run ok_H_divide [] 90 (fun kk hk => ?_)
      conv => whnf
      refine b_nz (b := false) rfl (fun h => by cases h) (fun _ => ?_)
      conv => whnf
      exact hk _ _ _ _ (r_H_divide_15 (jH_same hR))
    | true =>
      rw [hx, hy, if_pos ⟨rfl, rfl⟩] at hGo
      rw [if_pos ⟨rfl, rfl⟩]
      obtain ⟨k, hk40, rfl⟩ := sp_ip_t hx
      obtain ⟨r, hr40, rfl⟩ := sp_ip_t hy
      rw [nI_clamp (n := k) (by omega), nI_clamp (n := r) (by omega)] at hGo ⊢
      cases hb : hB S with
      | false =>
        rw [if_neg (by decide)]
        have h8 : σ.1 h 8 = sp_bi false := by rw [hR.2.1.2.2.2.1, hb]
        refine jm_run ok_H_divide [] 90 (fun kk hk => ?_)
        conv => whnf
        refine b_nz (b := true) rfl (fun _ => ?_) (fun h => by cases h)
        conv => whnf
        refine b_nz h8 (fun h => by cases h) (fun _ => ?_)
        conv => whnf
        exact hk _ _ _ _ (r_H_divide_25 (jH_same hR))
      | true =>
        rw [hb, if_pos rfl] at hGo
        rw [if_pos rfl]
        have h8 : σ.1 h 8 = sp_bi true := by rw [hR.2.1.2.2.2.1, hb]
        have hP := hR.pl hG hk40
        have hpr := hH.ple hk40
        have w1 := (pg_ok hG hk40).1
        have hj := hG.2.1
        have hgl := hG.2.2.2.1
        obtain ⟨s, es, heX⟩ := id hR.2.2.2.2.1.1
        have hX := (heX hb).2
        have hl24 := hX.1
        have e25 : eo (h + 196) 8 25 = h + 1260 := by unfold eo; omega
        have hGl : (sp_G (hel S)).length = (hel S).length := by rw [sp_G, List.length_map]
        have hst : jm_wi (jm_wi σ (h + 196) 11 0) (h + 196) 12 5000 = ((jm_wi (jm_wi σ (h + 196) 11 0) (h + 196) 12 5000).1, σ.2) := rfl
        have f0q : ∀ q, q ≠ h + 196 → (jm_wi (jm_wi σ (h + 196) 11 0) (h + 196) 12 5000).1 q = σ.1 q := fun q hq => (jm_wi_q hq).trans (jm_wi_q hq)
        have f0k : ∀ k, k ≠ 11 → k ≠ 12 → (jm_wi (jm_wi σ (h + 196) 11 0) (h + 196) 12 5000).1 (h + 196) k = σ.1 (h + 196) k := fun k h1 h2 => (jm_wi_k h2).trans (jm_wi_k h1)
        have f011 : (jm_wi (jm_wi σ (h + 196) 11 0) (h + 196) 12 5000).1 (h + 196) 11 = 0 := (jm_wi_k (by decide)).trans jm_wi_at
        have f012 : (jm_wi (jm_wi σ (h + 196) 11 0) (h + 196) 12 5000).1 (h + 196) 12 = 5000 := jm_wi_at
        generalize (jm_wi (jm_wi σ (h + 196) 11 0) (h + 196) 12 5000).1 = f0 at hst f0q f0k f011 f012
        refine jm_run ok_H_divide [] 90 (fun kk hk => ?_)
        conv => whnf
        refine b_nz (b := true) rfl (fun _ => ?_) (fun h => by cases h)
        conv => whnf
        refine b_nz h8 (fun _ => ?_) (fun h => by cases h)
        conv => whnf
        refine jg hH.fe ?_
        conv => whnf
        refine jg hH.fe ?_
        conv => whnf
        refine jg hH.fe ?_
        conv => whnf
        refine jg hH.fe ?_
        conv => whnf
        rw [hst]
        refine jg hH.fe ?_
        conv => whnf
        refine jg hH.e1.1.2.2.2.2.2.1 ?_
        conv => whnf
        refine jg hH.fpl ?_
        conv => whnf
        refine jr rfl hH.npl hpr.1 ?_
        conv => whnf
        have hP0 : PA f0 (h + 3 + 4 * k) (pg S k) := PA_frame hP (f0q _ (by omega)) (f0q _ (by omega)) (f0q _ (by omega)) (f0q _ (by omega))
        refine hk _ _ _ _ (k_H_divide_74 rfl (c_become (σ := (f0, σ.2)) hH.e1.2.2.2.2.1 hpr.2 hP0 w1.1 (by unfold dj; omega)) (fun u hu => ?_))
        obtain ⟨f, hf, hu, hPA⟩ := jO_some hu
        subst hu
        show J g (d + 9) 67 77 _ _ (f, σ.2) _
        have fe : f (h + 196) = f0 (h + 196) := hf _ (by omega) (by omega)
        have hXf : EX f (h + 196) 8 s (hgn S).length (hel S) := by
          refine ⟨hX.1, (congrFun fe 10).trans ((f0k 10 (by decide) (by decide)).trans hX.2.1), fun i E hE => gd_frame (hX.2.2 i E hE) (fun q h1 h2 => ?_)⟩
          have := eo_ge (h + 196) 8 (s i)
          exact (hf q (by omega) (by omega)).trans (f0q q (by omega))
        have hEP : EP g (f, σ.2) (h + 196) 8 (hkd S) s := ⟨hj, (heX hb).1, es.1, es.2⟩
        -- where both ways meet
        have meet : ∀ (f1 : Nat → Nat → Int32) (ρ : (Nat → Nat → Nat) × (Nat × Nat)) (a : Int32) (z6 : Option jm_V) (K : jm_O → Prop), ρ.1 h = σ.2.1 h → (∀ f2 : Nat → Nat → Int32, f2 (h + 196) = σ.1 (h + 196) → (∀ q, q ≠ h + 196 → f2 q = f1 q) → J g (d + 9) 67 117 [some (aR 1 h), some (aI (nI k)), some (aI (nI r)), some (aI (σ.1 (h + 196) 11)), some (aI (σ.1 (h + 196) 12)), some (aI a), z6] [] (f2, ρ) K) → (∀ k, k ≠ 11 → k ≠ 12 → f1 (h + 196) k = σ.1 (h + 196) k) →
            J g (d + 9) 67 100 [some (aR 1 h), some (aI (nI k)), some (aI (nI r)), some (aI (σ.1 (h + 196) 11)), some (aI (σ.1 (h + 196) 12)), some (aI a), z6] [] (f1, ρ) K := by
          intro f1 ρ a z6 K hρ hnx hk1
          have hfe : ρ.1 h 6 = h + 196 + 1 := by rw [hρ]; exact hH.fe
          have hst3 : jm_wi (jm_wi (f1, ρ) (h + 196) 11 (σ.1 (h + 196) 11)) (h + 196) 12 (σ.1 (h + 196) 12) = ((jm_wi (jm_wi (f1, ρ) (h + 196) 11 (σ.1 (h + 196) 11)) (h + 196) 12 (σ.1 (h + 196) 12)).1, ρ) := rfl
          refine jm_run ok_H_divide [117] 90 (fun kk hk => ?_)
          conv => whnf
          refine jg hfe ?_
          conv => whnf
          refine jg hfe ?_
          conv => whnf
          rw [hst3]
          refine hk _ _ _ _ (hnx _ ?_ (fun q hq => (jm_wi_q hq).trans (jm_wi_q hq)))
          funext k'
          by_cases k12 : k' = 12
          · subst k12; exact jm_wi_at
          · refine (jm_wi_k k12).trans ?_
            by_cases k11 : k' = 11
            · subst k11; exact jm_wi_at
            · exact (jm_wi_k k11).trans (hk1 k' k11 k12)
        refine jm_run ok_H_divide [] 90 (fun kk hk => ?_)
        conv => whnf
        refine jg hH.fe ?_
        conv => whnf
        refine hk _ _ _ _ (k_H_divide_85 rfl (c_divide (σ := (f, σ.2)) (bt := 1000) (c := 0) (lim := 5000) hH.e1 hEP hXf.eg hPA w1 (fun i hi => ⟨fun h1 => absurd h1 ?_, fun h1 => by omega⟩) ((congrFun fe 11).trans f011) ((congrFun fe 12).trans f012) (by omega) (by omega) hr) (fun u hu => ?_))
        · rw [sp_iN, show (-1 : Int32) = sp_i (-1) from by decide, sp_ieq (by omega) (by omega)]; omega
        obtain ⟨f1, ⟨g1, g2, g3⟩, g4, g5, g6⟩ := hu
        have f1k : ∀ k, k ≠ 11 → k ≠ 12 → f1 (h + 196) k = σ.1 (h + 196) k := fun k h1 h2 => (g3 k h1).trans ((congrFun fe k).trans (f0k k h1 h2))
        have f1q : ∀ q, ¬ (h + 196 ≤ q ∧ q < h + 310) → f1 q = σ.1 q := fun q hq => (g1 q (by omega)).trans ((hf q (by omega) (by omega)).trans (f0q q (by omega)))
        rw [show 5000 - 0 = 5000 from rfl] at g6
        generalize hdd : sp_dl (hkd S) (sp_G (hel S)) 1000 5000 (pg S k) (List.replicate (sp_G (hel S)).length []) [] = o at g6 hGo
        obtain ⟨m, o⟩ := o
        rcases g6 with ⟨qs, rest, ho, hu, hEQ, hPr, hwr⟩ | ⟨c, ho, hu⟩
        · subst hu
          have ho : o = .inr (qs, rest) := ho
          subst ho
          have hql : qs.length = (hel S).length := by rw [sp_dl_len hdd, List.length_replicate, hGl]
          show J g (d + 9) 67 88 _ _ (f1, σ.2) (jH g σ h (sp_bi (decide (rest.length = 0))) (S.1, (((hpl S).set r rest, hgn S), ((hel S, (hB S, decide (rest.length = 0))), (qs, hct S)))))
          have hrl := hwr.1
          have last : ∀ (f5 : Nat → Nat → Int32) (z6 : Option jm_V), (∀ q, q ≠ h → ¬ (h + 197 ≤ q ∧ q < h + 310) → ¬ (h + 1534 ≤ q ∧ q < h + 1630) → f5 q = σ.1 q) → (∀ k, k ≠ 9 → f5 h k = σ.1 h k) → f5 h 9 = sp_bi (decide (rest.length = 0)) → PA f5 (h + 297) rest → PL f5 (h + 1534) qs →
              J g (d + 9) 67 188 [some (aR 1 h), some (aI (nI k)), some (aI (nI r)), some (aI (σ.1 (h + 196) 11)), some (aI (σ.1 (h + 196) 12)), some (aI 0), z6] [] (f5, σ.2) (jH g σ h (sp_bi (decide (rest.length = 0))) (S.1, (((hpl S).set r rest, hgn S), ((hel S, (hB S, decide (rest.length = 0))), (qs, hct S))))) := by
            intro f5 z6 h5q h5k h59 hPr5 hPL5
            refine jm_run ok_H_divide [] 90 (fun kk hk => ?_)
            conv => whnf
            refine jg hH.fe ?_
            conv => whnf
            refine jg hH.e1.1.2.2.2.2.1 ?_
            conv => whnf
            refine hk _ _ _ _ (k_H_divide_197 rfl (c_give (σ := (f5, σ.2)) hH hr40 hH.e1.2.2.2.1 hPr5 hwr.1 (by unfold dj; omega)) (fun u hu => ?_))
            obtain ⟨f6, hf6, hPA6, hu⟩ := hu
            subst hu
            show J g (d + 9) 67 200 _ _ (f6, σ.2) _
            have f6h : f6 h = f5 h := hf6 h (by omega)
            have f69 : f6 h 9 = sp_bi (decide (rest.length = 0)) := (congrFun f6h 9).trans h59
            have hl := hG.2.2.1
            have hRf : HR g (f6, σ.2) h (S.1, (((hpl S).set r rest, hgn S), ((hel S, (hB S, decide (rest.length = 0))), (qs, hct S)))) := by
              have f6k : ∀ k, k ≠ 9 → f6 h k = σ.1 h k := fun k hk => (congrFun f6h k).trans (h5k k hk)
              have f6q : ∀ q, q ≠ h → ¬ (h + 197 ≤ q ∧ q < h + 310) → ¬ (h + 1534 ≤ q ∧ q < h + 1630) → ¬ (h + 3 + 4 * r ≤ q ∧ q ≤ h + 3 + 4 * r + 3) → f6 q = σ.1 q := fun q h1 h2 h3 h4 => (hf6 q h4).trans (h5q q h1 h2 h3)
              refine ⟨hH, ⟨(f6k 0 (by decide)).trans hR.2.1.1, (f6k 2 (by decide)).trans hR.2.1.2.1, (f6k 5 (by decide)).trans hR.2.1.2.2.1, (f6k 8 (by decide)).trans hR.2.1.2.2.2.1, f69⟩, PL_set (n := 40) hR.2.2.1 (Nat.le_of_eq hl) hPA6 (fun q h1 h2 h3 => f6q q (by omega) (by omega) (by omega) h3), PL_fr (n := 8) hR.2.2.2.1 hgl (fun q h1 h2 => f6q q (by omega) (by omega) (by omega) (by omega)), HE_fr (S := S) (τ := (f6, σ.2)) hR.2.2.2.2.1 hgl (f6q _ (by omega) (by omega) (by omega) (by omega)) (fun q h1 h2 => f6q q (by omega) (by omega) (by omega) (by omega)) rfl rfl, hR.2.2.2.2.2.1, fun _ _ => PL_fr (n := 24) hPL5 (show qs.length ≤ 24 by omega) (fun q h1 h2 => hf6 q (by omega))⟩
            have hout : ∀ q, ¬ (h ≤ q ∧ q < h + 1631) → f6 q = σ.1 q := fun q hq => (hf6 q (by omega)).trans (h5q q (by omega) (by omega) (by omega))
            by_cases h0 : rest.length = 0
            · rw [decide_eq_true h0] at hRf f69 ⊢
              refine jm_run ok_H_divide [] 90 (fun kk hk => ?_)
              conv => whnf
              refine b_z f69 (fun h => by cases h) (fun _ => ?_)
              conv => whnf
              exact hk _ _ _ _ (r_H_divide_213 (jH_ret hRf hout (fun _ _ => rfl) rfl))
            · rw [decide_eq_false h0] at hRf f69 ⊢
              refine jm_run ok_H_divide [] 90 (fun kk hk => ?_)
              conv => whnf
              refine b_z f69 (fun _ => ?_) (fun h => by cases h)
              conv => whnf
              exact hk _ _ _ _ (r_H_divide_213 (jH_ret hRf hout (fun _ _ => rfl) rfl))
          have loop : ∀ (n i : Nat), i + n = (hel S).length → ∀ f4 : Nat → Nat → Int32, (∀ q, q ≠ h → ¬ (h + 197 ≤ q ∧ q < h + 310) → ¬ (h + 1534 ≤ q ∧ q < h + 1630) → f4 q = σ.1 q) → (∀ k, k ≠ 9 → f4 h k = σ.1 h k) → f4 h 9 = sp_bi (decide (rest.length = 0)) → (∀ q, h + 197 ≤ q → q < h + 310 → f4 q = f1 q) → (∀ i' p, i' < i → qs[i']? = some p → PA f4 (h + 1534 + 4 * i') p) →
              J g (d + 9) 67 150 [some (aR 1 h), some (aI (nI k)), some (aI (nI r)), some (aI (σ.1 (h + 196) 11)), some (aI (σ.1 (h + 196) 12)), some (aI 0), some (aI (nI i))] [] (f4, σ.2) (jH g σ h (sp_bi (decide (rest.length = 0))) (S.1, (((hpl S).set r rest, hgn S), ((hel S, (hB S, decide (rest.length = 0))), (qs, hct S))))) := by
            intro n
            induction n with
            | zero =>
              intro i hin f4 h4q h4k h49 h41 h4p
              have f10 : f4 (h + 196) 10 = nI (hel S).length := by rw [h4q _ (by omega) (by omega) (by omega)]; exact hX.2.1
              refine jm_run ok_H_divide [150, 188] 90 (fun kk hk => ?_)
              conv => whnf
              refine jg hH.fe ?_
              conv => whnf
              refine b_le f10 rfl (fun _ => ?_) (fun h => by omega)
              conv => whnf
              exact hk _ _ _ _ (last f4 _ h4q h4k h49 (PA_frame hPr (h41 _ (by omega) (by omega)) (h41 _ (by omega) (by omega)) (h41 _ (by omega) (by omega)) (h41 _ (by omega) (by omega))) (fun i' p hp => h4p i' p (by have := (List.getElem?_eq_some_iff.mp hp).1; omega) hp))
            | succ n ih =>
              intro i hin f4 h4q h4k h49 h41 h4p
              have f10 : f4 (h + 196) 10 = nI (hel S).length := by rw [h4q _ (by omega) (by omega) (by omega)]; exact hX.2.1
              have gi : qs[i]? = some qs[i] := List.getElem?_eq_getElem (by omega)
              have hqi := hEQ i _ gi
              generalize qs[i] = qi at gi hqi
              have hqe := hH.e1.2.2.1 i (by omega)
              have hkpr := hH.kpe (k := i) (by omega)
              have hPq : PA f4 (h + 196 + 5 + 4 * i) qi := PA_frame hqi.1 (h41 _ (by omega) (by omega)) (h41 _ (by omega) (by omega)) (h41 _ (by omega) (by omega)) (h41 _ (by omega) (by omega))
              refine jm_run ok_H_divide [150, 188] 90 (fun kk hk => ?_)
              conv => whnf
              refine jg hH.fe ?_
              conv => whnf
              refine b_le f10 rfl (fun h => by omega) (fun _ => ?_)
              conv => whnf
              refine jg hH.fk ?_
              conv => whnf
              refine jr rfl hH.nk hkpr.1 ?_
              conv => whnf
              refine jg hH.fe ?_
              conv => whnf
              refine jg hH.e1.1.2.2.2.1 ?_
              conv => whnf
              refine jr rfl hH.e1.2.1.2.2.1 hqe.1 ?_
              conv => whnf
              refine hk _ _ _ _ (k_H_divide_179 rfl (c_become (σ := (f4, σ.2)) hkpr.2 hqe.2 hPq hqi.2.1 (by unfold dj; omega)) (fun u hu => ?_))
              obtain ⟨f5, hf5, hu, hPA5⟩ := jO_some hu
              subst hu
              show J g (d + 9) 67 182 _ _ (f5, σ.2) _
              have f5h : f5 h = f4 h := hf5 h (by omega) (by omega)
              refine jm_run ok_H_divide [150, 188] 90 (fun kk hk => ?_)
              conv => whnf
              rw [nI_1]
              refine hk _ _ _ _ (ih (i + 1) (by omega) f5 (fun q h1 h2 h3 => (hf5 q (by omega) (by omega)).trans (h4q q h1 h2 h3)) (fun k hk => (congrFun f5h k).trans (h4k k hk)) ((congrFun f5h 9).trans h49) (fun q h1 h2 => (hf5 q (by omega) (by omega)).trans (h41 q h1 h2)) (fun i' p hi' hp => ?_))
              by_cases hii : i' = i
              · subst hii
                rw [gi] at hp
                cases hp
                exact hPA5
              · exact PA_frame (h4p i' p (by omega) hp) (hf5 _ (by omega) (by omega)) (hf5 _ (by omega) (by omega)) (hf5 _ (by omega) (by omega)) (hf5 _ (by omega) (by omega))
          refine jm_run ok_H_divide [100] 90 (fun kk hk => ?_)
          conv => whnf
          refine hk _ _ _ _ (meet f1 σ.2 0 none _ rfl (fun f2 f2e f2q => ?_) f1k)
          have hPr2 : PA f2 (h + 297) rest := PA_frame hPr (f2q _ (by omega)) (f2q _ (by omega)) (f2q _ (by omega)) (f2q _ (by omega))
          have f2all : ∀ q, ¬ (h + 197 ≤ q ∧ q < h + 310) → f2 q = σ.1 q := fun q hq => by
            by_cases he : q = h + 196
            · subst he; exact f2e
            · exact (f2q q he).trans (f1q q (by omega))
          have go : ∀ b : Bool, b = decide (rest.length = 0) → J g (d + 9) 67 150 [some (aR 1 h), some (aI (nI k)), some (aI (nI r)), some (aI (σ.1 (h + 196) 11)), some (aI (σ.1 (h + 196) 12)), some (aI 0), some (aI 0)] [] (jm_wi (f2, σ.2) h 9 (sp_bi b)) (jH g σ h (sp_bi (decide (rest.length = 0))) (S.1, (((hpl S).set r rest, hgn S), ((hel S, (hB S, decide (rest.length = 0))), (qs, hct S))))) := by
            intro b hb2
            subst hb2
            exact loop (hel S).length 0 (by omega) (jm_wi (f2, σ.2) h 9 (sp_bi (decide (rest.length = 0)))).1 (fun q h1 h2 h3 => (jm_wi_q h1).trans (f2all q h2)) (fun k hk => (jm_wi_k hk).trans (congrFun (f2all h (by omega)) k)) jm_wi_at (fun q h1 h2 => (jm_wi_q (by omega)).trans (f2q q (by omega))) (fun i' p h1 => absurd h1 (Nat.not_lt_zero _))
          refine jm_run ok_H_divide [150] 90 (fun kk hk => ?_)
          conv => whnf
          refine b_le (a := 0) (b := 0) rfl rfl (fun _ => ?_) (fun h => by omega)
          conv => whnf
          refine jg hH.fe ?_
          conv => whnf
          refine jg hH.e1.1.2.2.2.2.1 ?_
          conv => whnf
          refine b_ne hPr2.1 (b := 0) rfl (fun h0 => ?_) (fun h0 => ?_)
          · conv => whnf
            refine ⟨Or.inl rfl, ?_⟩
            conv => whnf
            exact hk _ _ _ _ (go false (decide_eq_false h0).symm)
          · conv => whnf
            refine ⟨Or.inr rfl, ?_⟩
            conv => whnf
            exact hk _ _ _ _ (go true (decide_eq_true h0).symm)
        · subst hu
          have ho : o = .inl c := ho
          subst ho
          have hcn := sp_dl_neg hdd
          show J g (d + 9) 67 91 _ [aR 7 _] (jm_wi (jm_nw (f1, σ.2) 7) σ.2.2.1 0 c) (jH g σ h c S)
          have hn1 : ∀ q, q ≠ σ.2.2.1 → (jm_wi (jm_nw (f1, σ.2) 7) σ.2.2.1 0 c).1 q = f1 q := fun q hq => by simp [jm_wi, jm_nw, jm_u, hq]
          have hn2 : ∀ q, q ≠ σ.2.2.1 → (jm_wi (jm_nw (f1, σ.2) 7) σ.2.2.1 0 c).2.1 q = σ.2.1 q := fun q hq => by simp [jm_wi, jm_nw, jm_u, hq]
          have hn3 : (jm_wi (jm_nw (f1, σ.2) 7) σ.2.2.1 0 c).1 σ.2.2.1 0 = c := jm_wi_at
          have hn4 : (jm_wi (jm_nw (f1, σ.2) 7) σ.2.2.1 0 c).2.2 = (σ.2.2.1 + 1, σ.2.2.2 + 7) := rfl
          have hsp : jm_wi (jm_nw (f1, σ.2) 7) σ.2.2.1 0 c = ((jm_wi (jm_nw (f1, σ.2) 7) σ.2.2.1 0 c).1, (jm_wi (jm_nw (f1, σ.2) 7) σ.2.2.1 0 c).2) := rfl
          rw [hsp]
          generalize (jm_wi (jm_nw (f1, σ.2) 7) σ.2.2.1 0 c).1 = F at hn1 hn3
          generalize (jm_wi (jm_nw (f1, σ.2) 7) σ.2.2.1 0 c).2 = ρ at hn2 hn4
          refine jm_run ok_H_divide [100] 90 (fun kk hk => ?_)
          conv => whnf
          rw [show (F, ρ).1 σ.2.2.1 0 = c from hn3]
          refine hk _ _ _ _ (meet F ρ c _ _ (hn2 h (by omega)) (fun f2 f2e f2q => ?_) (fun k h1 h2 => (congrFun (hn1 _ (by omega)) k).trans (f1k k h1 h2)))
          have f2all : ∀ q, q ≠ σ.2.2.1 → ¬ (h + 197 ≤ q ∧ q < h + 310) → f2 q = σ.1 q := fun q h9 hq => by
            by_cases he : q = h + 196
            · subst he; exact f2e
            · exact (f2q q he).trans ((hn1 q h9).trans (f1q q (by omega)))
          have hK : jH g σ h c S ((f2, ρ), .inl (some (aI c))) := ⟨(f2, ρ), HR_fr hR hG (fun q h1 h2 => hn2 q (by omega)) (fun q h1 h2 h3 h4 => f2all q (by omega) h3), rfl, by show σ.2.2.1 ≤ ρ.2.1; rw [hn4]; exact Nat.le_succ _, by show ρ.2.1 ≤ σ.2.2.1 + 1; rw [hn4]; exact Nat.le_refl _, by show ρ.2.2 ≤ σ.2.2.2 + 7; rw [hn4]; exact Nat.le_refl _, fun q hq hlt => ⟨f2all q (Nat.ne_of_lt hlt) (by omega), hn2 q (Nat.ne_of_lt hlt)⟩⟩
          have hc0 : ¬ (0 : Int32) ≤ c := by
            rcases hcn with e | e <;> (subst e; decide)
          refine jm_run ok_H_divide [] 90 (fun kk hk => ?_)
          conv => whnf
          refine ⟨fun q => absurd q hc0, fun _ => ?_⟩
          conv => whnf
          exact hk _ _ _ _ (r_H_divide_124 hK)
end
