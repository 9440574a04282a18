/-! THE MODEL: reduce -/
theorem come_neg {j : Nat} {p : sp_P} {mo : sp_M} : sp_come j ((1, (1, mo)) :: p) (-1) 1 mo = some p := by
  have h0 : ∀ k, sp_cmp k mo mo = 0 := fun k => by
    unfold sp_cmp sp_bs
    have e1 : sp_sd mo mo 5 = 0 := by rw [sd_sm]; omega
    have e2 : sp_lx mo mo 5 = 0 := by
      have := lx_top (a := mo) (b := mo) (n := 0) (k := 5) (fun u _ _ => rfl)
      exact this
    rw [e1, if_pos rfl, e2]
    split
    · omega
    · split
      · rfl
      · rw [if_pos (by omega)]
  have ha : sp_at j mo ((1, (1, mo)) :: p) = 0 := by
    unfold sp_at
    rw [if_neg (by rw [h0]; decide)]
  unfold sp_come
  rw [ha]
  show (if mo = mo then (sp_fr (1 * 1 + -1 * 1) (1 * 1)).map (sp_put ((1, (1, mo)) :: p) 0 mo) else _) = _
  rw [if_pos rfl, show sp_fr (1 * 1 + -1 * 1) (1 * 1) = some (0, 1) from by decide]
  rfl
theorem hd_cons {p : sp_P} (h0 : p ≠ []) (h : sp_hd p = (1, 1)) : p = (1, (1, sp_ld p)) :: p.drop 1 := by
  cases p with
  | nil => exact absurd rfl h0
  | cons t r =>
    obtain ⟨t1, t2, t3⟩ := t
    have h1 : (t1, t2) = (1, 1) := h
    cases h1
    rfl
section
variable {g : jm_G} {d : Nat} {σ : jm_S} {m : Nat}
def jR5 (σ : jm_S) (m : Nat) (T : Nat → sp_P) (base sh lim : Nat) (r : Nat × (Int32 ⊕ List sp_E)) : jm_O → Prop := fun u => ∃ f T', FD5 σ m f ∧ MS f m T' ∧ (∀ q, ¬ sl base sh q → T' q = T q) ∧ f m 13 = nI (lim - r.1) ∧ r.1 ≤ lim ∧ ((∃ els', r.2 = .inr els' ∧ PL5 T' base sh els' ∧ f m 11 = 0 ∧ f m 12 = 0) ∨ (∃ x, r.2 = .inl x ∧ flg f m x)) ∧ u = ((f, σ.2), .inl none)
set_option maxRecDepth 8000 in
theorem c_mreduce {T : Nat → sp_P} {base n j gens sh lim N e : Nat} {ws : Bool} {els : List sp_E} (hM : ML g σ m) (hMK : MK σ.1 m base n j gens ws sh lim) (hS : MS σ.1 m T) (hB : PL5 T base sh els) (h20 : σ.1 m 20 = nI els.length) (hSE : SE j n sh els) (he : e < els.length) (h11 : σ.1 m 11 = 0) (h12 : σ.1 m 12 = 0) (h13 : σ.1 m 13 = nI (lim - N)) (hN : N ≤ lim) :
    J g (d + 6) 118 0 [some (aR 6 m), some (aI (nI e)), none, none, none, none, none, none] [] σ (jR5 σ m T base sh lim (sp_red j N els e)) := by
  obtain ⟨mC, m19, m21, m7, m22, m14, hbase, hg8, hsh, hlim⟩ := id hMK
  have hsh8 := hMK.sh8
  have hl24 := hSE.2.1
  have hGl := sp_G_len els
  have gE : els[e]? = some els[e] := List.getElem?_eq_getElem he
  have ha0 := sp_at0_at gE
  have hPE := hB e _ gE
  have hEm := List.mem_of_getElem? gE
  generalize els[e] = E at gE ha0 hPE hEm
  have hE1 := hSE.1 E hEm
  have hE2 := hSE.2.2 E hEm
  have hcons := hd_cons hE1.2.2 hE2.2.2
  have ldok := sp_ld_ok hE1.2.1.1
  have ldv := HVp_ld hE2.2.1.1
  have hP := (hS (base + e) (by omega)).2
  rw [hPE.1] at hP
  have row := hP.2 0 (1, (1, sp_ld E.1)) (by rw [hcons]; rfl)
  have row1 : σ.1 (m + 1) (100 * (base + e)) = sp_i 1 := row.1
  have row2 : σ.1 (m + 2) (100 * (base + e)) = sp_i 1 := row.2.1
  refine jm_run ok_M_reduce [] 90 (fun kk hk => ?_)
  conv => whnf
  rw [m19, nI_add]
  refine jg hM.num ?_
  conv => whnf
  refine ja (ix0 _) hM.l1 row1 ?_
  conv => whnf
  refine jg hM.den ?_
  conv => whnf
  refine ja (ix0 _) hM.l2 row2 ?_
  conv => whnf
  refine hk _ _ _ _ (k_M_reduce_35 rfl (c_mlead hM hS (by omega) (by rw [hPE.1]; exact hE1.2.2)) (fun u hu => ?_))
  subst hu
  rw [hPE.1]
  show J g (d + 6) 118 38 _ _ σ _
  refine jm_run ok_M_reduce [] 90 (fun kk hk => ?_)
  conv => whnf
  refine hk _ _ _ _ (k_M_reduce_43 rfl (c_mcopy (a := base + e) (b := 151) hM hS (by omega) (by omega) (by omega)) (fun u hu => ?_))
  obtain ⟨f1, hf1, hS1, hu⟩ := hu
  subst hu
  rw [hPE.1] at hS1
  have f1m : f1 m = σ.1 m := hf1 m (by omega)
  show J g (d + 6) 118 46 _ _ (f1, σ.2) _
  refine jm_run ok_M_reduce [] 90 (fun kk hk => ?_)
  conv => whnf
  rw [sp_ineg]
  refine hk _ _ _ _ (k_M_reduce_55 rfl (c_mcomes (σ := (f1, σ.2)) (T := tU T 151 E.1) (p := 151) (A := -1) (B := 1) hM ⟨(congrFun f1m 1).trans mC.1, (congrFun f1m 2).trans mC.2.1, mC.2.2⟩ hS1 (by omega) (by rw [tU_at]; exact hE1.2.1.1) (by rw [tU_at]; exact hE2.2.1.1) (by decide) (by decide) ldok ldv ((congrFun f1m 11).trans h11)) (fun u hu => ?_))
  obtain ⟨f2, l2, hf2, hS2, h3, hu⟩ := hu
  subst hu
  rw [tU_at, tU_tU] at *
  have hcn : sp_come j E.1 (-1) 1 (sp_ld E.1) = some (E.1.drop 1) := by
    have := come_neg (j := j) (p := E.1.drop 1) (mo := sp_ld E.1)
    rw [← hcons] at this
    exact this
  rw [hcn] at h3
  rcases h3 with ⟨h3, f211⟩ | ⟨h3, -⟩
  · have h3 := Option.some.inj h3
    subst h3
    have f2k : ∀ k, k ≠ 11 → k ≠ 16 → k ≠ 17 → f2 m k = σ.1 m k := fun k a b c => (hf2.2 k a b c).trans (congrFun f1m k)
    have f2q : ∀ q, ¬ (m ≤ q ∧ q ≤ m + 4) → f2 q = σ.1 q := fun q hq => (hf2.1 q hq).trans (hf1 q (by omega))
    have hst : jm_wi (f2, σ.2) m 21 (nI e) = ((jm_wi (f2, σ.2) m 21 (nI e)).1, σ.2) := rfl
    have g21 : (jm_wi (f2, σ.2) m 21 (nI e)).1 m 21 = nI e := jm_wi_at
    have gk : ∀ k, k ≠ 21 → (jm_wi (f2, σ.2) m 21 (nI e)).1 m k = f2 m k := fun k hk => jm_wi_k hk
    have gq : ∀ q, q ≠ m → (jm_wi (f2, σ.2) m 21 (nI e)).1 q = f2 q := fun q hq => jm_wi_q hq
    show J g (d + 6) 118 58 _ _ (f2, σ.2) _
    refine jm_run ok_M_reduce [] 90 (fun kk hk => ?_)
    conv => whnf
    rw [hst]
    generalize (jm_wi (f2, σ.2) m 21 (nI e)).1 = F at g21 gk gq
    have hSF : MS F m (tU T 151 (E.1.drop 1)) := MS_fr hS2 (fun q a b => gq q (by omega))
    have FkS : ∀ k, k ≠ 11 → k ≠ 16 → k ≠ 17 → k ≠ 21 → F m k = σ.1 m k := fun k a b c d => (gk k d).trans (f2k k a b c)
    have hG1 : ∀ i p, (sp_G els)[i]? = some p → tU T 151 (E.1.drop 1) (base + i) = p ∧ sp_pw p ∧ p ≠ [] ∧ HVp n p := fun i p hp => by
      have hi := (List.getElem?_eq_some_iff.mp hp).1
      unfold sp_G at hp
      rw [List.getElem?_map] at hp
      cases hg : els[i]? with
      | none => rw [hg] at hp; cases hp
      | some E' =>
        rw [hg] at hp
        cases hp
        have hm' := List.mem_of_getElem? hg
        rw [tU_ne (by omega)]
        exact ⟨(hB i E' hg).1, (hSE.1 E' hm').2.1.1, (hSE.1 E' hm').2.2, (hSE.2.2 E' hm').2.1.1⟩
    have hdw : sp_pw (E.1.drop 1) := ⟨by rw [List.length_drop]; have := hE1.2.1.1.1; omega, fun t ht => hE1.2.1.1.2 t (List.mem_of_mem_drop ht)⟩
    have hdv : HVp n (E.1.drop 1) := fun t ht => hE2.2.1.1 t (List.mem_of_mem_drop ht)
    refine hk _ _ _ _ (k_M_reduce_68 rfl (c_mdivided (σ := (F, σ.2)) (G := sp_G els) (bt := e) (c := lim - N) (lim := lim) hM ⟨(FkS 1 (by decide) (by decide) (by decide) (by decide)).trans mC.1, (FkS 2 (by decide) (by decide) (by decide) (by decide)).trans mC.2.1, mC.2.2⟩ hSF hbase ((FkS 19 (by decide) (by decide) (by decide) (by decide)).trans m19) (by rw [hGl]; exact (FkS 20 (by decide) (by decide) (by decide) (by decide)).trans h20) (by omega) g21 (fun i hi => nI_eq (by omega) (by omega)) hG1 (tU_at _ _ _) hdw hdv ((gk 11 (by decide)).trans f211) ((FkS 12 (by decide) (by decide) (by decide) (by decide)).trans h12) ((FkS 13 (by decide) (by decide) (by decide) (by decide)).trans h13) ((FkS 14 (by decide) (by decide) (by decide) (by decide)).trans m14) (by omega) hlim) (fun u hu => ?_))
    rw [show lim - (lim - N) = N by omega] at hu
    have hred : sp_red j N els e = match sp_dl j (sp_G els) e N (E.1.drop 1) (List.replicate (sp_G els).length []) [] with
      | (o1, .inl x) => (o1, .inl x)
      | (o1, .inr qr) => match sp_shs j qr.1 els 0 E.2 with
        | none => (o1, .inl (-7))
        | some ss => match sp_come j qr.2 1 1 (sp_ld E.1) with
          | none => (o1, .inl (-7))
          | some p => (o1, .inr (els.set e (p, ss))) := by unfold sp_red; rw [ha0]; rfl
    have hdlf : ∀ qs rest n', sp_dl j (sp_G els) e N (E.1.drop 1) (List.replicate (sp_G els).length []) [] = (n', .inr (qs, rest)) → sp_pw rest ∧ HVp n rest ∧ qs.length = els.length ∧ ∀ q ∈ qs, sp_pw q ∧ HVp n q := by
      intro qs rest n' hd
      have d1 := SI_rest hSE.1 hEm hd
      have d2 := sp_dl_qw (fun p hp => (hSE.1.G p hp).2) hdw (fun p hp => by rw [List.mem_replicate] at hp; rw [hp.2]; exact sp_pw_nil) hd
      have d3 := HVp_dl hSE.G hdv HVp_rep (HVp_nil _) hd
      have d4 := sp_dl_len hd
      exact ⟨d1.1, d3.2, by rw [d4, List.length_replicate, hGl], fun q hq => ⟨d2 q hq, d3.1 q hq⟩⟩
    rw [hred]
    generalize sp_dl j (sp_G els) e N (E.1.drop 1) (List.replicate (sp_G els).length []) [] = o at hu hdlf
    obtain ⟨N2, o⟩ := o
    obtain ⟨f3, T3, hf3, hS3, hq3, f313, hN2, h4, hu⟩ := hu
    subst hu
    have hst3 : jm_wi (f3, σ.2) m 21 (-1) = ((jm_wi (f3, σ.2) m 21 (-1)).1, σ.2) := rfl
    have h21' : (jm_wi (f3, σ.2) m 21 (-1)).1 m 21 = -1 := jm_wi_at
    have hk' : ∀ k, k ≠ 21 → (jm_wi (f3, σ.2) m 21 (-1)).1 m k = f3 m k := fun k hk => jm_wi_k hk
    have hq' : ∀ q, q ≠ m → (jm_wi (f3, σ.2) m 21 (-1)).1 q = f3 q := fun q hq => jm_wi_q hq
    show J g (d + 6) 118 71 _ _ (f3, σ.2) _
    have T3q : ∀ q, ¬ sl base sh q → T3 q = T q := fun q hq => by
      rw [hq3 q (fun e => hq (Or.inr (Or.inr (Or.inl (by omega))))) (fun e => hq (Or.inr (Or.inr (Or.inl (by omega))))) (fun e => hq (Or.inr (Or.inl e))), tU_ne (fun e => hq (Or.inr (Or.inr (Or.inl (by omega)))))]
    -- behind the division
    have FD : FD5 σ m (jm_wi (f3, σ.2) m 21 (-1)).1 := ⟨fun q hq => (hq' q (by omega)).trans ((hf3.1 q hq).trans ((gq q (by omega)).trans (f2q q hq))), fun k a b c e' i => by
      by_cases k21 : k = 21
      · subst k21; exact h21'.trans m21.symm
      · exact (hk' k k21).trans ((hf3.2 k a b c e' i).trans (FkS k a e' i k21))⟩
    have hS3' : MS (jm_wi (f3, σ.2) m 21 (-1)).1 m T3 := MS_fr hS3 (fun q a b => hq' q (by omega))
    rcases h4 with ⟨qs, rest, ho, f311, f312, hT152, hTq⟩ | ⟨x, ho, hfl⟩
    · have ho : o = .inr (qs, rest) := ho
      subst ho
      obtain ⟨rw1, rv1, hql, hqw⟩ := hdlf qs rest N2 rfl
      show J g (d + 6) 118 71 _ _ (f3, σ.2) (jR5 σ m T base sh lim (match sp_shs j qs els 0 E.2 with
        | none => (N2, .inl (-7))
        | some ss => match sp_come j rest 1 1 (sp_ld E.1) with
          | none => (N2, .inl (-7))
          | some p => (N2, .inr (els.set e (p, ss)))))
      refine jm_run ok_M_reduce [] 90 (fun kk hk => ?_)
      conv => whnf
      rw [hst3]
      have F11 : (jm_wi (f3, σ.2) m 21 (-1)).1 m 11 = 0 := (hk' 11 (by decide)).trans f311
      have F12 : (jm_wi (f3, σ.2) m 21 (-1)).1 m 12 = 0 := (hk' 12 (by decide)).trans f312
      have F13 : (jm_wi (f3, σ.2) m 21 (-1)).1 m 13 = nI (lim - N2) := (hk' 13 (by decide)).trans f313
      generalize (jm_wi (f3, σ.2) m 21 (-1)).1 = H at FD hS3' F11 F12 F13
      refine b_nz (b := false) F11 (fun h => by cases h) (fun _ => ?_)
      conv => whnf
      refine b_z (b := false) F12 (fun _ => ?_) (fun h => by cases h)
      conv => whnf
      refine hk _ _ _ _ (k_M_reduce_101 rfl (c_mcomes (σ := (H, σ.2)) (T := T3) (p := 152) (A := 1) (B := 1) hM ⟨(FD.2 1 (by decide) (by decide) (by decide) (by decide) (by decide)).trans mC.1, (FD.2 2 (by decide) (by decide) (by decide) (by decide) (by decide)).trans mC.2.1, mC.2.2⟩ hS3' (by omega) (by rw [hT152]; exact rw1) (by rw [hT152]; exact rv1) (by decide) (by decide) ldok ldv F11) (fun u hu => ?_))
      obtain ⟨f4, l4, hf4, hS4, h5, hu⟩ := hu
      subst hu
      rw [hT152] at h5
      have FD4 := FD.fm (ρ := σ.2) hf4
      have f413 : f4 m 13 = nI (lim - N2) := (hf4.2 13 (by decide) (by decide) (by decide)).trans F13
      have f412 : f4 m 12 = 0 := (hf4.2 12 (by decide) (by decide) (by decide)).trans F12
      show J g (d + 6) 118 104 _ _ (f4, σ.2) _
      refine jm_run ok_M_reduce [] 90 (fun kk hk => ?_)
      conv => whnf
      refine hk _ _ _ _ (k_M_reduce_109 rfl (c_mcopy (σ := (f4, σ.2)) (a := 152) (b := base + e) hM hS4 (by omega) (by omega) (by omega)) (fun u hu => ?_))
      obtain ⟨f5, hf5, hS5, hu⟩ := hu
      subst hu
      rw [tU_at] at hS5
      have f5m : f5 m = f4 m := hf5 m (by omega)
      have FD5' : FD5 σ m f5 := ⟨fun q hq => (hf5 q (by omega)).trans (FD4.1 q hq), fun k a b c e' i => (congrFun f5m k).trans (FD4.2 k a b c e' i)⟩
      have T5q : ∀ q, ¬ sl base sh q → tU (tU T3 152 l4) (base + e) l4 q = T q := fun q hq => by
        rw [tU_ne (fun e' => hq (Or.inl (by omega))), tU_ne (fun e' => hq (Or.inr (Or.inr (Or.inl (by omega)))))]
        exact T3q q hq
      have cofs : ∀ i E', els[i]? = some E' → ∀ k q, E'.2[k]? = some q → tU (tU T3 152 l4) (base + e) l4 (170 + 8 * i + k) = q := fun i E' hi k q hq => by
        rw [tU_ne (by omega), tU_ne (by omega), hq3 _ (by omega) (by omega) (by omega), tU_ne (by omega)]
        exact (hB i E' hi).2.2 k q hq
      have polys : ∀ i E', els[i]? = some E' → i ≠ e → tU (tU T3 152 l4) (base + e) l4 (base + i) = E'.1 := fun i E' hi hne => by
        have := (List.getElem?_eq_some_iff.mp hi).1
        rw [tU_ne (by omega), tU_ne (by omega), hq3 _ (by omega) (by omega) (by omega), tU_ne (by omega)]
        exact (hB i E' hi).1
      have qsl : ∀ i p, qs[i]? = some p → tU (tU T3 152 l4) (base + e) l4 (100 + i) = p := fun i p hp => by
        have := (List.getElem?_eq_some_iff.mp hp).1
        rw [tU_ne (by omega), tU_ne (by omega)]
        exact hTq i p hp
      have hpT : tU (tU T3 152 l4) (base + e) l4 (base + e) = l4 := tU_at _ _ _
      generalize tU (tU T3 152 l4) (base + e) l4 = T5 at hS5 T5q cofs polys qsl hpT
      show J g (d + 6) 118 112 _ _ (f5, σ.2) _
      rcases h5 with ⟨h5, f411⟩ | ⟨h5, f411⟩
      · rw [h5]
        -- the shares
        have shl : ∀ (c k : Nat), k + c = sh → ∀ (f6 : Nat → Nat → Int32) (T6 : Nat → sp_P) (ys : List sp_P), FD5 σ m f6 → MS f6 m T6 → (∀ q, ¬ sl base sh q → T6 q = T q) → f6 m 11 = 0 → f6 m 12 = 0 → f6 m 13 = nI (lim - N2) → (∀ i E', els[i]? = some E' → i ≠ e → ∀ k' q, E'.2[k']? = some q → T6 (170 + 8 * i + k') = q) → (∀ k' q, k ≤ k' → E.2[k']? = some q → T6 (170 + 8 * e + k') = q) → (∀ k' q, ys[k']? = some q → T6 (170 + 8 * e + k') = q) → ys.length = k → (∀ i E', els[i]? = some E' → i ≠ e → T6 (base + i) = E'.1) → T6 (base + e) = l4 → (∀ i p, qs[i]? = some p → T6 (100 + i) = p) → sp_shs j qs els 0 E.2 = (sp_shs j qs els k (E.2.drop k)).map (fun r => ys ++ r) →
            J g (d + 6) 118 115 [some (aR 6 m), some (aI (nI e)), some (aI (nI (base + e))), some (aI (nI 151)), some (aI (sp_i 1)), some (aI (sp_i 1)), some (aI (sp_d (sp_ld E.1))), some (aI (nI k))] [] (f6, σ.2) (jR5 σ m T base sh lim (match sp_shs j qs els 0 E.2 with
              | none => (N2, .inl (-7))
              | some ss => (N2, .inr (els.set e (l4, ss))))) := by
          intro c
          induction c with
          | zero =>
            intro k hkc f6 T6 ys hf6 hS6 hq6 f611 f612 f613 hco1 hco2 hco3 hyl hpo hpe hqs6 hsp
            rw [List.drop_of_length_le (by rw [hE2.1]; omega)] at hsp
            have hsp : sp_shs j qs els 0 E.2 = some (ys ++ []) := hsp
            rw [List.append_nil] at hsp
            rw [hsp]
            have hend : jR5 σ m T base sh lim (N2, .inr (els.set e (l4, ys))) ((f6, σ.2), .inl none) := by
              refine ⟨f6, T6, hf6, hS6, hq6, f613, hN2, Or.inl ⟨_, rfl, fun i E' hE' => ?_, f611, f612⟩, rfl⟩
              by_cases hie : e = i
              · subst hie
                rw [List.getElem?_set_self he] at hE'
                cases hE'
                exact ⟨hpe, by show ys.length = sh; omega, hco3⟩
              · rw [List.getElem?_set_ne hie] at hE'
                exact ⟨hpo i E' hE' (fun q => hie q.symm), (hSE.2.2 E' (List.mem_of_getElem? hE')).1, hco1 i E' hE' (fun q => hie q.symm)⟩
            have f67 : f6 m 7 = nI gens := (hf6.2 7 (by decide) (by decide) (by decide) (by decide) (by decide)).trans m7
            have f622 : f6 m 22 = sp_bi ws := (hf6.2 22 (by decide) (by decide) (by decide) (by decide) (by decide)).trans m22
            refine jm_run ok_M_reduce [] 90 (fun kk hk => ?_)
            conv => whnf
            refine b_le f67 rfl (fun _ => ?_) (fun hlt => ?_)
            · conv => whnf
              exact hk _ _ _ _ (r_M_reduce_191 hend)
            · have hwf : ws = false := by
                cases ws with
                | false => rfl
                | true => have : sh = gens := hsh; omega
              rw [hwf] at f622
              conv => whnf
              refine b_z (b := false) f622 (fun _ => ?_) (fun h => by cases h)
              conv => whnf
              exact hk _ _ _ _ (r_M_reduce_191 hend)
          | succ c ih =>
            intro k hkc f6 T6 ys hf6 hS6 hq6 f611 f612 f613 hco1 hco2 hco3 hyl hpo hpe hqs6 hsp
            have f67 : f6 m 7 = nI gens := (hf6.2 7 (by decide) (by decide) (by decide) (by decide) (by decide)).trans m7
            have hwt : ws = true := by
              cases ws with
              | true => rfl
              | false => have : sh = 0 := hsh; omega
            have hgs : sh = gens := by rw [hsh, hwt]; rfl
            have f622 : f6 m 22 = sp_bi true := by rw [← hwt]; exact (hf6.2 22 (by decide) (by decide) (by decide) (by decide) (by decide)).trans m22
            have hkE : k < E.2.length := by rw [hE2.1]; omega
            have gk' : E.2[k]? = some E.2[k] := List.getElem?_eq_getElem hkE
            rw [drop_cons gk', sp_shs] at hsp
            have hTk := hco2 k _ (Nat.le_refl _) gk'
            have skw := hE1.2.1.2 _ (List.mem_of_getElem? gk')
            have skv := hE2.2.1.2 _ (List.mem_of_getElem? gk')
            generalize E.2[k] = sk at gk' hsp hTk skw skv
            have hcl : (sp_col els k).length = qs.length := by unfold sp_col; rw [List.length_map, hql]
            refine jm_run ok_M_reduce [115] 90 (fun kk hk => ?_)
            conv => whnf
            refine b_le f67 rfl (fun h => by omega) (fun _ => ?_)
            conv => whnf
            refine b_z (b := true) f622 (fun h => by cases h) (fun _ => ?_)
            conv => whnf
            refine b_nz (b := false) f611 (fun h => by cases h) (fun _ => ?_)
            conv => whnf
            refine hk _ _ _ _ (k_M_reduce_143 rfl c_mcof (fun u hu => ?_))
            subst hu
            show J g (d + 6) 118 146 _ _ (f6, σ.2) _
            refine jm_run ok_M_reduce [115] 90 (fun kk hk => ?_)
            conv => whnf
            rw [show (154 : Int32) + nI k = nI (154 + k) from nI_add 154 k]
            refine hk _ _ _ _ (k_M_reduce_152 rfl (c_mcopy (σ := (f6, σ.2)) (a := 170 + 8 * e + k) (b := 154 + k) hM hS6 (by omega) (by omega) (by omega)) (fun u hu => ?_))
            obtain ⟨f7', hf7, hS7, hu⟩ := hu
            subst hu
            rw [hTk] at hS7
            have f7m : f7' m = f6 m := hf7 m (by omega)
            have FD7 : FD5 σ m f7' := ⟨fun q hq => (hf7 q (by omega)).trans (hf6.1 q hq), fun k a b c e' i => (congrFun f7m k).trans (hf6.2 k a b c e' i)⟩
            have cols : ∀ i q, (sp_col els k)[i]? = some q → tU T6 (154 + k) sk (170 + 8 * i + k) = q ∧ sp_pw q ∧ HVp n q := fun i q hq => by
              obtain ⟨E', gE', gEk⟩ := sp_col_at hq (fun i E hE => (hSE.2.2 E (List.mem_of_getElem? hE)).1) (by omega : k < sh)
              have hm' := List.mem_of_getElem? gE'
              have hmq := List.mem_of_getElem? gEk
              refine ⟨?_, (hSE.1 E' hm').2.1.2 q hmq, (hSE.2.2 E' hm').2.1.2 q hmq⟩
              rw [tU_ne (by omega)]
              by_cases hie : i = e
              · subst hie
                rw [gE] at gE'
                cases gE'
                exact hco2 k q (Nat.le_refl _) gEk
              · exact hco1 i E' gE' hie k q gEk
            show J g (d + 6) 118 155 _ _ (f7', σ.2) _
            refine jm_run ok_M_reduce [115] 90 (fun kk hk => ?_)
            conv => whnf
            rw [show (154 : Int32) + nI k = nI (154 + k) from nI_add 154 k]
            refine hk _ _ _ _ (k_M_reduce_165 rfl (c_mless (σ := (f7', σ.2)) (T := tU T6 (154 + k) sk) (p := 154 + k) (sg := -1) (qs := qs) (cs := sp_col els k) hM ⟨(FD7.2 1 (by decide) (by decide) (by decide) (by decide) (by decide)).trans mC.1, (FD7.2 2 (by decide) (by decide) (by decide) (by decide) (by decide)).trans mC.2.1, mC.2.2⟩ hS7 (by omega) (by omega) (Or.inr rfl) (by rw [hql]; exact (FD7.2 20 (by decide) (by decide) (by decide) (by decide) (by decide)).trans h20) (by omega) hcl (fun i q hq => ⟨by have := (List.getElem?_eq_some_iff.mp hq).1; rw [tU_ne (by omega)]; exact hqs6 i q hq, hqw q (List.mem_of_getElem? hq)⟩) cols (by rw [tU_at]; exact skw) (by rw [tU_at]; exact skv) ((congrFun f7m 11).trans f611)) (fun u hu => ?_))
            obtain ⟨f8, l8, hf8, hS8, h9, hu⟩ := hu
            subst hu
            rw [tU_at] at h9
            rw [tU_tU] at hS8
            have FD8 := FD7.fm (ρ := σ.2) hf8
            show J g (d + 6) 118 168 _ _ (f8, σ.2) _
            refine jm_run ok_M_reduce [115] 90 (fun kk hk => ?_)
            conv => whnf
            rw [show (154 : Int32) + nI k = nI (154 + k) from nI_add 154 k]
            refine hk _ _ _ _ (k_M_reduce_179 rfl c_mcof (fun u hu => ?_))
            subst hu
            refine k_M_reduce_182 rfl (c_mcopy (σ := (f8, σ.2)) (a := 154 + k) (b := 170 + 8 * e + k) hM hS8 (by omega) (by omega) (by omega)) (fun u hu => ?_)
            obtain ⟨f9, hf9, hS9, hu⟩ := hu
            subst hu
            rw [tU_at] at hS9
            have f9m : f9 m = f8 m := hf9 m (by omega)
            have FD9 : FD5 σ m f9 := ⟨fun q hq => (hf9 q (by omega)).trans (FD8.1 q hq), fun k a b c e' i => (congrFun f9m k).trans (FD8.2 k a b c e' i)⟩
            have f913 : f9 m 13 = nI (lim - N2) := (congrFun f9m 13).trans ((hf8.2 13 (by decide) (by decide) (by decide)).trans ((congrFun f7m 13).trans f613))
            have f912 : f9 m 12 = 0 := (congrFun f9m 12).trans ((hf8.2 12 (by decide) (by decide) (by decide)).trans ((congrFun f7m 12).trans f612))
            have T9 : ∀ q, q ≠ 154 + k → q ≠ 170 + 8 * e + k → tU (tU T6 (154 + k) l8) (170 + 8 * e + k) l8 q = T6 q := fun q a b => by rw [tU_ne b, tU_ne a]
            have T9q : ∀ q, ¬ sl base sh q → tU (tU T6 (154 + k) l8) (170 + 8 * e + k) l8 q = T q := fun q hq => by
              rw [T9 q (fun e' => hq (Or.inr (Or.inr (Or.inl (by omega))))) (fun e' => hq (Or.inr (Or.inr (Or.inr ⟨by omega, by omega, by omega⟩))))]
              exact hq6 q hq
            show J g (d + 6) 118 185 _ _ (f9, σ.2) _
            rcases h9 with ⟨h9, f811⟩ | ⟨h9, f811⟩
            · rw [h9] at hsp
              refine jm_run ok_M_reduce [115] 90 (fun kk hk => ?_)
              conv => whnf
              rw [nI_1]
              refine hk _ _ _ _ (ih (k + 1) (by omega) f9 _ (ys ++ [l8]) FD9 hS9 T9q ((congrFun f9m 11).trans f811) f912 f913 (fun i E' hi hne k' q hq => ?_) (fun k' q h1 hq => ?_) (fun k' q hq => ?_) (by rw [List.length_append, hyl]; rfl) (fun i E' hi hne => ?_) ?_ (fun i p hp => ?_) ?_)
              · have hk8 := (List.getElem?_eq_some_iff.mp hq).1
                rw [(hSE.2.2 E' (List.mem_of_getElem? hi)).1] at hk8
                rw [T9 _ (by omega) (by omega)]; exact hco1 i E' hi hne k' q hq
              · rw [T9 _ (by omega) (by omega)]; exact hco2 k' q (by omega) hq
              · by_cases hkk : k' < k
                · rw [List.getElem?_append_left (by omega)] at hq
                  rw [T9 _ (by omega) (by omega)]
                  exact hco3 k' q hq
                · have hlt := (List.getElem?_eq_some_iff.mp hq).1
                  rw [List.length_append] at hlt
                  have hlt : k' < ys.length + 1 := hlt
                  obtain rfl : k' = k := by omega
                  rw [List.getElem?_append_right (by omega), hyl, Nat.sub_self] at hq
                  cases hq
                  exact tU_at _ _ _
              · have := (List.getElem?_eq_some_iff.mp hi).1
                rw [T9 _ (by omega) (by omega)]; exact hpo i E' hi hne
              · rw [T9 _ (by omega) (by omega)]; exact hpe
              · have := (List.getElem?_eq_some_iff.mp hp).1
                rw [T9 _ (by omega) (by omega)]; exact hqs6 i p hp
              · rw [hsp]
                show ((sp_shs j qs els (k + 1) (E.2.drop (k + 1))).map (fun r' => l8 :: r')).map (fun r => ys ++ r) = _
                cases sp_shs j qs els (k + 1) (E.2.drop (k + 1)) with
                | none => rfl
                | some r' => show some _ = some _; simp
            · rw [h9] at hsp
              have hsp : sp_shs j qs els 0 E.2 = none := hsp
              rw [hsp]
              have f911 : f9 m 11 = 1 := (congrFun f9m 11).trans f811
              have hend : jR5 σ m T base sh lim (N2, .inl (-7)) ((f9, σ.2), .inl none) := ⟨f9, _, FD9, hS9, T9q, f913, hN2, Or.inr ⟨-7, rfl, Or.inr ⟨rfl, f912, f911⟩⟩, rfl⟩
              have f97 : f9 m 7 = nI gens := (FD9.2 7 (by decide) (by decide) (by decide) (by decide) (by decide)).trans m7
              have f922 : f9 m 22 = sp_bi true := by rw [← hwt]; exact (FD9.2 22 (by decide) (by decide) (by decide) (by decide) (by decide)).trans m22
              refine jm_run ok_M_reduce [] 90 (fun kk hk => ?_)
              conv => whnf
              rw [nI_1]
              refine b_le f97 rfl (fun _ => ?_) (fun _ => ?_)
              · conv => whnf
                exact hk _ _ _ _ (r_M_reduce_191 hend)
              · conv => whnf
                refine b_z (b := true) f922 (fun h => by cases h) (fun _ => ?_)
                conv => whnf
                refine b_nz (b := true) f911 (fun _ => ?_) (fun h => by cases h)
                conv => whnf
                exact hk _ _ _ _ (r_M_reduce_191 hend)
        refine jm_run ok_M_reduce [115] 90 (fun kk hk => ?_)
        conv => whnf
        refine hk _ _ _ _ (shl sh 0 (by omega) f5 T5 [] FD5' hS5 T5q ((congrFun f5m 11).trans f411) ((congrFun f5m 12).trans f412) ((congrFun f5m 13).trans f413) (fun i E' hi _ => cofs i E' hi) (fun k' q _ hq => cofs e E gE k' q hq) (fun k' q hq => (by cases hq)) rfl polys hpT qsl ?_)
        rw [List.drop_zero]
        cases sp_shs j qs els 0 E.2 <;> rfl
      · rw [h5]
        have hsame : (match sp_shs j qs els 0 E.2 with
          | none => (N2, .inl (-7))
          | some ss => (match (none : Option sp_P) with
            | none => (N2, .inl (-7))
            | some p => (N2, .inr (els.set e (p, ss))) : Nat × (Int32 ⊕ List sp_E))) = (N2, .inl (-7)) := by
          cases sp_shs j qs els 0 E.2 <;> rfl
        rw [hsame]
        have f511 : f5 m 11 = 1 := (congrFun f5m 11).trans f411
        have hend : jR5 σ m T base sh lim (N2, .inl (-7)) ((f5, σ.2), .inl none) := ⟨f5, T5, FD5', hS5, T5q, (congrFun f5m 13).trans f413, hN2, Or.inr ⟨-7, rfl, Or.inr ⟨rfl, (congrFun f5m 12).trans f412, f511⟩⟩, rfl⟩
        have f57 : f5 m 7 = nI gens := (FD5'.2 7 (by decide) (by decide) (by decide) (by decide) (by decide)).trans m7
        have f522 : f5 m 22 = sp_bi ws := (FD5'.2 22 (by decide) (by decide) (by decide) (by decide) (by decide)).trans m22
        refine jm_run ok_M_reduce [] 90 (fun kk hk => ?_)
        conv => whnf
        refine b_le (b := 0) f57 rfl (fun _ => ?_) (fun _ => ?_)
        · conv => whnf
          exact hk _ _ _ _ (r_M_reduce_191 hend)
        · conv => whnf
          refine b_z (b := ws) f522 (fun _ => ?_) (fun _ => ?_)
          · conv => whnf
            exact hk _ _ _ _ (r_M_reduce_191 hend)
          · conv => whnf
            refine b_nz (b := true) f511 (fun _ => ?_) (fun h => by cases h)
            conv => whnf
            exact hk _ _ _ _ (r_M_reduce_191 hend)
    · have ho : o = .inl x := ho
      subst ho
      have F13 : (jm_wi (f3, σ.2) m 21 (-1)).1 m 13 = nI (lim - N2) := (hk' 13 (by decide)).trans f313
      have hfl' : flg (jm_wi (f3, σ.2) m 21 (-1)).1 m x := by
        unfold flg at hfl ⊢
        rw [hk' 12 (by decide), hk' 11 (by decide)]
        exact hfl
      have hend : jR5 σ m T base sh lim (N2, .inl x) (((jm_wi (f3, σ.2) m 21 (-1)).1, σ.2), .inl none) := ⟨_, T3, FD, hS3', T3q, F13, hN2, Or.inr ⟨x, rfl, hfl'⟩, rfl⟩
      refine jm_run ok_M_reduce [] 90 (fun kk hk => ?_)
      conv => whnf
      rw [hst3]
      generalize (jm_wi (f3, σ.2) m 21 (-1)).1 = H at hend hfl'
      rcases hfl' with ⟨-, F12, F11⟩ | ⟨-, F12, F11⟩
      · refine b_nz (b := false) F11 (fun h => by cases h) (fun _ => ?_)
        conv => whnf
        refine b_z (b := true) F12 (fun h => by cases h) (fun _ => ?_)
        conv => whnf
        exact hk _ _ _ _ (r_M_reduce_90 hend)
      · refine b_nz (b := true) F11 (fun _ => ?_) (fun h => by cases h)
        conv => whnf
        exact hk _ _ _ _ (r_M_reduce_90 hend)
  · cases h3
end
