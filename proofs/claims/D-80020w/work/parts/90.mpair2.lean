/-! THE MODEL: onePair, the division and its shares -/
theorem col_at {els : List sp_E} {k : Nat} (i : Nat) {E : sp_E} (h : els[i]? = some E) : (sp_col els k)[i]? = some (E.2.getD k []) := by
  unfold sp_col
  rw [List.getElem?_map, h]
  rfl
/-- the columns of shares in the slots -/
theorem MB_col {f : Nat → Nat → Int32} {m : Nat} {T : Nat → sp_P} {base sh j n k : Nat} {st : sp_ES} (h : MB f m T base sh st) (hs : SE j n sh st.1) (hk : k < sh) : ∀ i q, (sp_col st.1 k)[i]? = some q → T (170 + 8 * i + k) = q ∧ sp_pw q ∧ HVp n q := by
  intro i q hq
  obtain ⟨E, gE, gEk⟩ := sp_col_at hq (fun i E hE => (hs.2.2 E (List.mem_of_getElem? hE)).1) hk
  have hE := List.mem_of_getElem? gE
  have hm := List.mem_of_getElem? gEk
  exact ⟨(h.1 i E gE).2.2 k q gEk, (hs.1 E hE).2.1.2 q hm, (hs.2.2 E hE).2.1.2 q hm⟩
section
variable {g : jm_G} {d : Nat} {σ : jm_S} {m : Nat}
theorem FD5.os {f f' : Nat → Nat → Int32} {T T1 T2 : Nat → sp_P} {base sh : Nat} {st : sp_ES} {ρ : (Nat → Nat → Nat) × (Nat × Nat)} (h : OS σ m f T T1 base sh st) (hf : FD5 (f, ρ) m f') (hS : MS f' m T2) (hq : ∀ q, q ≠ 151 → q ≠ 152 → ¬ (100 ≤ q ∧ q < 125) → T2 q = T1 q) (h12 : f' m 12 = 0) (hbase : base = 50 ∨ base = 75) (hl : st.1.length ≤ 24) : OS σ m f' T T2 base sh st := by
  obtain ⟨h1, h2, ⟨h3, h4, h5⟩, h6, h7, h8, h9⟩ := h
  refine ⟨h1.trans (hf.fk (fun q a => hq q (fun e => a (Or.inr (Or.inr (Or.inl (by omega))))) (fun e => a (Or.inr (Or.inr (Or.inl (by omega))))) (fun e => a (Or.inr (Or.inl e))))), hS, ⟨fun i E hE => EA5_fr (h3 i E hE) ?_ (fun k hk => hq _ (by omega) (by omega) (by omega)), (hf.2 20 (by decide) (by decide) (by decide) (by decide) (by decide)).trans h4, fun i k a b => by rw [hf.1 (m + 7) (by omega)]; exact h5 i k a b⟩, (hf.2 21 (by decide) (by decide) (by decide) (by decide) (by decide)).trans h6, (hf.2 24 (by decide) (by decide) (by decide) (by decide) (by decide)).trans h7, (hf.2 25 (by decide) (by decide) (by decide) (by decide) (by decide)).trans h8, h12⟩
  have := (List.getElem?_eq_some_iff.mp hE).1
  exact hq _ (by omega) (by omega) (by omega)
set_option maxRecDepth 8000 in
theorem c_mpairD {T T1 : Nat → sp_P} {base n j gens sh lim N : Nat} {ws : Bool} {st : sp_ES} {wk : sp_P} {ss : List sp_P} {f : Nat → Nat → Int32} {L1 L2 L3 L4 L5 : Int32} {z7 : Option jm_V} (hM : ML g σ m) (hMK : MK σ.1 m base n j gens ws sh lim) (hSE : SE j n sh st.1) (hO : OS σ m f T T1 base sh st) (h11 : f m 11 = 0) (h13 : f m 13 = nI (lim - N)) (hN : N ≤ lim)
    (hT1 : T1 151 = wk) (hww : sp_pw wk) (hwv : HVp n wk) (hso : so j wk) (hsl : ss.length = sh) (hss : ∀ k q, ss[k]? = some q → T1 (154 + k) = q ∧ sp_pw q ∧ HVp n q) :
    J g (d + 6) 108 325 [some (aR 6 m), some (aI L1), some (aI L2), some (aI L3), some (aI L4), some (aI L5), some (aI (nI 151)), z7] [] (f, σ.2) (jP5 σ m T base sh lim st.1.length (sp_add j st ss (sp_dl j (sp_G st.1) 1000 N wk (List.replicate (sp_G st.1).length []) []))) := by
  obtain ⟨hK, hS, hB, h21, h24, h25, h12⟩ := id hO
  have hmk := MK_fk hMK hK h21
  obtain ⟨mC, m19, -, m7, m22, m14, hbase, hg8, hsh, hlim⟩ := id hmk
  have hsh8 := hMK.sh8
  have hl24 := hSE.2.1
  have hGl := sp_G_len st.1
  have hmg := hB.mg hSE
  refine jm_run ok_M_onePair [] 90 (fun kk hk => ?_)
  conv => whnf
  refine hk _ _ _ _ (k_M_onePair_331 rfl (c_mdivided (σ := (f, σ.2)) (T := T1) (G := sp_G st.1) (bt := 1000) (c := lim - N) (lim := lim) hM mC hS hbase m19 (by rw [hGl]; exact hB.2.1) (by omega) h21 (fun i hi => ⟨fun h1 => absurd h1 ?_, fun h1 => by omega⟩) hmg hT1 hww hwv h11 h12 h13 m14 (by omega) hlim) (fun u hu => ?_))
  · rw [sp_iN, show (-1 : Int32) = sp_i (-1) from by decide, sp_ieq (by omega) (by omega)]; omega
  rw [show lim - (lim - N) = N by omega] at hu
  have hdlf : ∀ qs rest n', sp_dl j (sp_G st.1) 1000 N wk (List.replicate (sp_G st.1).length []) [] = (n', .inr (qs, rest)) → (sp_pw rest ∧ so j rest) ∧ HVp n rest ∧ qs.length = st.1.length ∧ ∀ q ∈ qs, sp_pw q ∧ HVp n q := by
    intro qs rest n' hd
    have d1 := so_dl hSE.1.G 4611686018427387904 hww hso (fun t ht => sp_key_lt (hww.2 t ht).2.2.2.2 _) sp_pw_nil (so_nil _) (fun t ht => (by cases ht)) hd
    have d2 := sp_dl_qw (fun p hp => (hSE.1.G p hp).2) hww (fun p hp => by rw [List.mem_replicate] at hp; rw [hp.2]; exact sp_pw_nil) hd
    have d3 := HVp_dl hSE.G hwv HVp_rep (HVp_nil _) hd
    have d4 := sp_dl_len hd
    exact ⟨⟨d1.1, d1.2.1⟩, d3.2, by rw [d4, List.length_replicate, hGl], fun q hq => ⟨d2 q hq, d3.1 q hq⟩⟩
  generalize sp_dl j (sp_G st.1) 1000 N wk (List.replicate (sp_G st.1).length []) [] = o at hu hdlf
  obtain ⟨N2, o⟩ := o
  obtain ⟨f2, T2, hf2, hS2, hq2, f213, hN2, h3, hu⟩ := hu
  subst hu
  have m2 : ∀ k, k ≠ 11 → k ≠ 12 → k ≠ 13 → k ≠ 16 → k ≠ 17 → f2 m k = f m k := hf2.2
  have f220 : f2 m 20 = nI st.1.length := (m2 20 (by decide) (by decide) (by decide) (by decide) (by decide)).trans hB.2.1
  have hK2 : FK σ m f2 T T2 base sh := hK.trans (hf2.fk (fun q a => hq2 q (fun e => a (Or.inr (Or.inr (Or.inl (by omega))))) (fun e => a (Or.inr (Or.inr (Or.inl (by omega))))) (fun e => a (Or.inr (Or.inl e)))))
  have f221 : f2 m 21 = -1 := (m2 21 (by decide) (by decide) (by decide) (by decide) (by decide)).trans h21
  have f224 : f2 m 24 = σ.1 m 24 := (m2 24 (by decide) (by decide) (by decide) (by decide) (by decide)).trans h24
  have f225 : f2 m 25 = σ.1 m 25 := (m2 25 (by decide) (by decide) (by decide) (by decide) (by decide)).trans h25
  show J g (d + 6) 108 334 _ _ (f2, σ.2) _
  rcases h3 with ⟨qs, rest, ho, f211, f212, hT152, hTq⟩ | ⟨x, ho, hfl⟩
  · have ho : o = .inr (qs, rest) := ho
    subst ho
    obtain ⟨⟨rw1, ro1⟩, rv1, hql, hqw⟩ := hdlf qs rest N2 rfl
    have hO2 : OS σ m f2 T T2 base sh st := hf2.os hO hS2 hq2 f212 hbase hl24
    have h152 := (hS2 152 (by omega)).2.1
    rw [hT152] at h152
    have rl := rw1.1
    by_cases hr0 : rest.length = 0
    · have hadd : sp_add j st ss (N2, .inr (qs, rest)) = (N2, .inr st) := by
        unfold sp_add
        show (if rest.length = 0 then _ else _) = _
        rw [if_pos hr0]
      rw [hadd]
      refine jm_run ok_M_onePair [] 90 (fun kk hk => ?_)
      conv => whnf
      refine b_nz (b := false) f211 (fun h => by cases h) (fun _ => ?_)
      conv => whnf
      refine b_nz (b := false) f212 (fun h => by cases h) (fun _ => ?_)
      conv => whnf
      refine jg hM.size ?_
      conv => whnf
      refine ja (i := 152) rfl hM.l4 h152 ?_
      conv => whnf
      refine b_ne (b := 0) rfl rfl (fun h => absurd hr0 h) (fun _ => ?_)
      conv => whnf
      exact hk _ _ _ _ (r_M_onePair_360 (Or.inr rfl) ⟨f2, T2, hK2, hS2, f213, hN2, f221, f224, f225, Or.inl ⟨st, rfl, hO2.2.2.1, f211, f212⟩, rfl⟩)
    · have hrne : rest ≠ [] := fun q => hr0 (by rw [q]; rfl)
      by_cases h24c : st.1.length = 24
      · have hadd : sp_add j st ss (N2, .inr (qs, rest)) = (N2, .inl (-7)) := by
          unfold sp_add
          show (if rest.length = 0 then _ else _) = _
          rw [if_neg hr0]
          split
          · rfl
          · split
            · rfl
            · rw [if_pos h24c]
        rw [hadd]
        have hst : jm_wi (f2, σ.2) m 11 1 = ((jm_wi (f2, σ.2) m 11 1).1, σ.2) := rfl
        refine jm_run ok_M_onePair [] 90 (fun kk hk => ?_)
        conv => whnf
        refine b_nz (b := false) f211 (fun h => by cases h) (fun _ => ?_)
        conv => whnf
        refine b_nz (b := false) f212 (fun h => by cases h) (fun _ => ?_)
        conv => whnf
        refine jg hM.size ?_
        conv => whnf
        refine ja (i := 152) rfl hM.l4 h152 ?_
        conv => whnf
        refine b_ne (b := 0) rfl rfl (fun _ => ?_) (fun h => absurd h hr0)
        conv => whnf
        refine b_ne f220 (b := 24) rfl (fun h => absurd h24c h) (fun _ => ?_)
        conv => whnf
        refine ⟨Or.inr rfl, ?_⟩
        conv => whnf
        rw [hst]
        refine hk _ _ _ _ (r_M_onePair_376 (Or.inr rfl) ⟨(jm_wi (f2, σ.2) m 11 1).1, T2, hK2.trans (ρ := σ.2) ⟨fun q a b c => jm_wi_q (by omega), fun k a => jm_wi_k (fun e => a (by unfold kf; omega)), fun q a => rfl⟩, MS_fr hS2 (fun q a b => jm_wi_q (by omega)), (jm_wi_k (by decide)).trans f213, hN2, (jm_wi_k (by decide)).trans f221, (jm_wi_k (by decide)).trans f224, (jm_wi_k (by decide)).trans f225, Or.inr ⟨-7, rfl, Or.inr ⟨rfl, (jm_wi_k (by decide)).trans f212, jm_wi_at⟩, (jm_wi_k (by decide)).trans f220⟩, rfl⟩)
      · have hadd : sp_add j st ss (N2, .inr (qs, rest)) = match sp_shs j qs st.1 0 ss with
            | none => (N2, .inl (-7))
            | some ss' => match sp_mon (rest, ss') with
              | none => (N2, .inl (-7))
              | some E => (N2, .inr (st.1 ++ [E], sp_jw st.1.length st.2)) := by
          unfold sp_add
          show (if rest.length = 0 then _ else _) = _
          rw [if_neg hr0]
          dsimp only
          cases sp_shs j qs st.1 0 ss with
          | none => rfl
          | some ss' =>
            dsimp only
            cases sp_mon (rest, ss') with
            | none => rfl
            | some E => exact if_neg h24c
        rw [hadd]
        have hlt24 : st.1.length < 24 := by omega
        have shl : ∀ (c k : Nat), k + c = sh → ∀ (f3 : Nat → Nat → Int32) (T3 : Nat → sp_P) (ys : List sp_P), OS σ m f3 T T3 base sh st → f3 m 11 = 0 → f3 m 13 = nI (lim - N2) → T3 152 = rest → (∀ i p, qs[i]? = some p → T3 (100 + i) = p) → ys.length = k → (∀ k' q, ys[k']? = some q → T3 (154 + k') = q ∧ sp_pw q) → (∀ k' q, k ≤ k' → ss[k']? = some q → T3 (154 + k') = q ∧ sp_pw q ∧ HVp n q) → sp_shs j qs st.1 0 ss = (sp_shs j qs st.1 k (ss.drop k)).map (fun r => ys ++ r) →
            J g (d + 6) 108 380 [some (aR 6 m), some (aI L1), some (aI L2), some (aI L3), some (aI L4), some (aI L5), some (aI (nI 151)), some (aI (nI k))] [] (f3, σ.2) (jP5 σ m T base sh lim st.1.length (match sp_shs j qs st.1 0 ss with
            | none => (N2, .inl (-7))
            | some ss' => match sp_mon (rest, ss') with
              | none => (N2, .inl (-7))
              | some E => (N2, .inr (st.1 ++ [E], sp_jw st.1.length st.2)))) := by
          intro c
          induction c with
          | zero =>
            intro k hkc f3 T3 ys hO3 f311 f313 hT3 hTq3 hyl hys hzs hsp
            have hmk3 := MK_fk hMK hO3.1 hO3.2.2.2.1
            rw [List.drop_of_length_le (by omega)] at hsp
            have hsp : sp_shs j qs st.1 0 ss = some (ys ++ []) := hsp
            rw [List.append_nil] at hsp
            rw [hsp]
            have fin : ∀ z7 : Option jm_V, J g (d + 6) 108 422 [some (aR 6 m), some (aI L1), some (aI L2), some (aI L3), some (aI L4), some (aI L5), some (aI (nI 151)), z7] [] (f3, σ.2) (jP5 σ m T base sh lim st.1.length (match sp_mon (rest, ys) with
              | none => (N2, .inl (-7))
              | some E => (N2, .inr (st.1 ++ [E], sp_jw st.1.length st.2)))) := by
              intro z7
              refine jm_run ok_M_onePair [431] 90 (fun kk hk => ?_)
              conv => whnf
              refine b_z (b := false) f311 (fun _ => ?_) (fun h => by cases h)
              conv => whnf
              exact hk _ _ _ _ (c_mpairE hM hMK hSE hO3 hlt24 f311 f313 hN2 hT3 rw1 hrne (by omega) hys)
            refine jm_run ok_M_onePair [422] 90 (fun kk hk => ?_)
            conv => whnf
            refine b_le hmk3.2.2.2.1 rfl (fun _ => ?_) (fun hlt => ?_)
            · conv => whnf
              exact hk _ _ _ _ (fin _)
            · have hwf : ws = false := by
                cases ws with
                | false => rfl
                | true => have : sh = gens := hsh; omega
              have w22 := hmk3.2.2.2.2.1
              rw [hwf] at w22
              conv => whnf
              refine b_z (b := false) w22 (fun _ => ?_) (fun h => by cases h)
              conv => whnf
              exact hk _ _ _ _ (fin _)
          | succ c ih =>
            intro k hkc f3 T3 ys hO3 f311 f313 hT3 hTq3 hyl hys hzs hsp
            have hmk3 := MK_fk hMK hO3.1 hO3.2.2.2.1
            have hwt : ws = true := by
              cases ws with
              | true => rfl
              | false => have : sh = 0 := hsh; omega
            have hgs : sh = gens := by rw [hsh, hwt]; rfl
            have w22 := hmk3.2.2.2.2.1
            rw [hwt] at w22
            have gk : ss[k]? = some ss[k] := List.getElem?_eq_getElem (by omega)
            have hzk := hzs k _ (Nat.le_refl _) gk
            rw [drop_cons gk, sp_shs] at hsp
            generalize ss[k] = sk at gk hzk hsp
            have hcl : (sp_col st.1 k).length = qs.length := by unfold sp_col; rw [List.length_map, hql]
            refine jm_run ok_M_onePair [380] 90 (fun kk hk => ?_)
            conv => whnf
            refine b_le hmk3.2.2.2.1 rfl (fun h => by omega) (fun _ => ?_)
            conv => whnf
            refine b_z (b := true) w22 (fun h => by cases h) (fun _ => ?_)
            conv => whnf
            refine b_nz (b := false) f311 (fun h => by cases h) (fun _ => ?_)
            conv => whnf
            rw [show (154 : Int32) + nI k = nI (154 + k) from nI_add 154 k]
            refine hk _ _ _ _ (k_M_onePair_413 rfl (c_mless (σ := (f3, σ.2)) (p := 154 + k) (sg := -1) (qs := qs) (cs := sp_col st.1 k) hM hmk3.1 hO3.2.1 (by omega) (by omega) (Or.inr rfl) (by rw [hql]; exact hO3.2.2.1.2.1) (by omega) hcl (fun i q hq => ⟨hTq3 i q hq, hqw q (List.mem_of_getElem? hq)⟩) (MB_col hO3.2.2.1 hSE (by omega)) (by rw [hzk.1]; exact hzk.2.1) (by rw [hzk.1]; exact hzk.2.2) f311) (fun u hu => ?_))
            obtain ⟨f4, l4, hf4, hS4, h5, hu⟩ := hu
            subst hu
            rw [hzk.1] at h5
            have hO4 := hO3.fm (ρ := σ.2) hf4 hS4 (by omega) hbase hl24
            show J g (d + 6) 108 416 _ _ (f4, σ.2) _
            rcases h5 with ⟨h5, f411⟩ | ⟨h5, f411⟩
            · rw [h5] at hsp
              refine jm_run ok_M_onePair [380] 90 (fun kk hk => ?_)
              conv => whnf
              rw [nI_1]
              refine hk _ _ _ _ (ih (k + 1) (by omega) f4 _ (ys ++ [l4]) hO4 f411 ((hf4.2 13 (by decide) (by decide) (by decide)).trans f313) (by rw [tU_ne (by omega)]; exact hT3) (fun i p hp => ?_) (by rw [List.length_append, hyl]; rfl) (fun k' q hk' => ?_) (fun k' q h1 hk' => ?_) ?_)
              · have := (List.getElem?_eq_some_iff.mp hp).1
                rw [tU_ne (by omega)]; exact hTq3 i p hp
              · by_cases hkk : k' < k
                · rw [List.getElem?_append_left (by omega)] at hk'
                  rw [tU_ne (by omega)]
                  exact hys k' q hk'
                · have hlt := (List.getElem?_eq_some_iff.mp hk').1
                  rw [List.length_append] at hlt
                  have hlt : k' < ys.length + 1 := hlt
                  obtain rfl : k' = k := by omega
                  rw [List.getElem?_append_right (by omega), hyl, Nat.sub_self] at hk'
                  cases hk'
                  exact ⟨tU_at _ _ _, sp_sh_w (Or.inr rfl) hzk.2.1 (fun p hp => (hqw p hp).1) (hSE.1.col _) h5⟩
              · rw [tU_ne (by omega)]
                exact hzs k' q (by omega) hk'
              · rw [hsp]
                show ((sp_shs j qs st.1 (k + 1) (ss.drop (k + 1))).map (fun r' => l4 :: r')).map (fun r => ys ++ r) = _
                cases sp_shs j qs st.1 (k + 1) (ss.drop (k + 1)) with
                | none => rfl
                | some r' => show some _ = some _; simp
            · rw [h5] at hsp
              have hsp : sp_shs j qs st.1 0 ss = none := hsp
              rw [hsp]
              have hmk4 := MK_fk hMK hO4.1 hO4.2.2.2.1
              have w422 := hmk4.2.2.2.2.1
              rw [hwt] at w422
              have hend : jP5 σ m T base sh lim st.1.length (N2, .inl (-7)) ((f4, σ.2), .inl (some (aI 1))) := ⟨f4, _, hO4.1, hO4.2.1, (hf4.2 13 (by decide) (by decide) (by decide)).trans f313, hN2, hO4.2.2.2.1, hO4.2.2.2.2.1, hO4.2.2.2.2.2.1, Or.inr ⟨-7, rfl, Or.inr ⟨rfl, hO4.2.2.2.2.2.2, f411⟩, hO4.2.2.1.2.1⟩, rfl⟩
              have fin : ∀ z7 : Option jm_V, J g (d + 6) 108 422 [some (aR 6 m), some (aI L1), some (aI L2), some (aI L3), some (aI L4), some (aI L5), some (aI (nI 151)), z7] [] (f4, σ.2) (jP5 σ m T base sh lim st.1.length (N2, .inl (-7))) := by
                intro z7
                refine jm_run ok_M_onePair [431] 90 (fun kk hk => ?_)
                conv => whnf
                refine b_z (b := true) f411 (fun h => by cases h) (fun _ => ?_)
                conv => whnf
                exact hk _ _ _ _ (r_M_onePair_430 (Or.inr rfl) hend)
              refine jm_run ok_M_onePair [422] 90 (fun kk hk => ?_)
              conv => whnf
              rw [nI_1]
              refine b_le hmk4.2.2.2.1 rfl (fun _ => ?_) (fun _ => ?_)
              · conv => whnf
                exact hk _ _ _ _ (fin _)
              · conv => whnf
                refine b_z (b := true) w422 (fun h => by cases h) (fun _ => ?_)
                conv => whnf
                refine b_nz (b := true) f411 (fun _ => ?_) (fun h => by cases h)
                conv => whnf
                exact hk _ _ _ _ (fin _)
        refine jm_run ok_M_onePair [380] 90 (fun kk hk => ?_)
        conv => whnf
        refine b_nz (b := false) f211 (fun h => by cases h) (fun _ => ?_)
        conv => whnf
        refine b_nz (b := false) f212 (fun h => by cases h) (fun _ => ?_)
        conv => whnf
        refine jg hM.size ?_
        conv => whnf
        refine ja (i := 152) rfl hM.l4 h152 ?_
        conv => whnf
        refine b_ne (b := 0) rfl rfl (fun _ => ?_) (fun h => absurd h hr0)
        conv => whnf
        refine b_ne f220 (b := 24) rfl (fun _ => ?_) (fun h => absurd h h24c)
        conv => whnf
        refine hk _ _ _ _ (shl sh 0 (by omega) f2 T2 [] hO2 f211 f213 hT152 hTq rfl (fun k' q hk' => (by cases hk')) (fun k' q _ hk' => ?_) ?_)
        · have := (List.getElem?_eq_some_iff.mp hk').1
          rw [hq2 _ (by omega) (by omega) (by omega)]
          exact hss k' q hk'
        · rw [List.drop_zero]
          cases sp_shs j qs st.1 0 ss <;> rfl
  · have ho : o = .inl x := ho
    subst ho
    have hadd : sp_add j st ss (N2, .inl x) = (N2, .inl x) := rfl
    rw [hadd]
    have hend : jP5 σ m T base sh lim st.1.length (N2, .inl x) ((f2, σ.2), .inl (some (aI 1))) := ⟨f2, T2, hK2, hS2, f213, hN2, f221, f224, f225, Or.inr ⟨x, rfl, hfl, f220⟩, rfl⟩
    rcases hfl with ⟨-, f212, f211⟩ | ⟨-, f212, f211⟩
    · refine jm_run ok_M_onePair [] 90 (fun kk hk => ?_)
      conv => whnf
      refine b_nz (b := false) f211 (fun h => by cases h) (fun _ => ?_)
      conv => whnf
      refine b_nz (b := true) f212 (fun _ => ?_) (fun h => by cases h)
      conv => whnf
      exact hk _ _ _ _ (r_M_onePair_360 (Or.inr rfl) hend)
    · refine jm_run ok_M_onePair [] 90 (fun kk hk => ?_)
      conv => whnf
      refine b_nz (b := true) f211 (fun _ => ?_) (fun h => by cases h)
      conv => whnf
      exact hk _ _ _ _ (r_M_onePair_360 (Or.inr rfl) hend)
end
