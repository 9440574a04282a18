/-! THE MODEL: onePair -/
section
variable {g : jm_G} {d : Nat} {σ : jm_S} {m : Nat}
set_option maxRecDepth 8000 in
theorem c_mpairC {T T1 : Nat → sp_P} {base n j gens sh lim N b1 b2 : Nat} {ws : Bool} {st : sp_ES} {f : Nat → Nat → Int32} {z4 z5 z6 z7 : Option jm_V} (hM : ML g σ m) (hMK : MK σ.1 m base n j gens ws sh lim) (hSE : SE j n sh st.1) (hO : OS σ m f T T1 base sh st) (h11 : f m 11 = 0) (h13 : f m 13 = nI (lim - N)) (hN : N ≤ lim) (hb1 : b1 < st.1.length) (hb2 : b2 < st.1.length) :
    J g (d + 6) 108 157 [some (aR 6 m), some (aI (nI b1)), some (aI (nI b2)), some (aI (sp_d (sp_cm (gl (sp_G st.1) b1) (gl (sp_G st.1) b2)))), z4, z5, z6, z7] [] (f, σ.2) (jP5 σ m T base sh lim st.1.length (sp_pair j N st b1 b2)) := by
  obtain ⟨hK, hS, hB, h21, h24, h25, h12⟩ := id hO
  have hmk := MK_fk hMK hK h21
  obtain ⟨mC, m19, -, m7, m22, m14, hbase, hg8, hsh, hlim⟩ := id hmk
  have hsh8 := hMK.sh8
  have hl24 := hSE.2.1
  have hGl := sp_G_len st.1
  have hmg := hB.mg hSE
  obtain ⟨l11, l12, l13, l14⟩ := hmg.gl (i := b1) (by omega)
  obtain ⟨l21, l22, l23, l24⟩ := hmg.gl (i := b2) (by omega)
  have e1 := hSE.at0 hb1
  have e2 := hSE.at0 hb2
  have w1 := hSE.1.at0 (i := b1)
  have w2 := hSE.1.at0 (i := b2)
  have g1 : st.1[b1]? = some (sp_at0 st.1 b1) := by rw [List.getElem?_eq_getElem hb1, sp_at0_at (List.getElem?_eq_getElem hb1)]
  have g2 : st.1[b2]? = some (sp_at0 st.1 b2) := by rw [List.getElem?_eq_getElem hb2, sp_at0_at (List.getElem?_eq_getElem hb2)]
  have cok := sp_cm_ok l13 l23
  have cv := HV_cm l14 l24
  have aok := sp_sb_ok (gl (sp_G st.1) b1) cok
  have bok := sp_sb_ok (gl (sp_G st.1) b2) cok
  have av := HV_sb (gl (sp_G st.1) b1) cv
  have bv := HV_sb (gl (sp_G st.1) b2) cv
  have hpair : sp_pair j N st b1 b2 = match sp_s2 j (sp_sb (sp_cm (gl (sp_G st.1) b1) (gl (sp_G st.1) b2)) (gl (sp_G st.1) b1)) (sp_sb (sp_cm (gl (sp_G st.1) b1) (gl (sp_G st.1) b2)) (gl (sp_G st.1) b2)) (sp_at0 st.1 b1).1 (sp_at0 st.1 b2).1 with
    | none => (N, .inl (-7))
    | some wk => match sp_ss j (sp_sb (sp_cm (gl (sp_G st.1) b1) (gl (sp_G st.1) b2)) (gl (sp_G st.1) b1)) (sp_sb (sp_cm (gl (sp_G st.1) b1) (gl (sp_G st.1) b2)) (gl (sp_G st.1) b2)) (sp_at0 st.1 b1).2 (sp_at0 st.1 b2).2 with
      | none => (N, .inl (-7))
      | some ss => sp_add j st ss (sp_dl j (sp_G st.1) 1000 N wk (List.replicate (sp_G st.1).length []) []) := rfl
  have dv := sp_cm_dv (gl (sp_G st.1) b1) (gl (sp_G st.1) b2)
  refine jm_run ok_M_onePair [] 90 (fun kk hk => ?_)
  conv => whnf
  rw [show (f, σ.2).1 m 19 = nI base from m19, nI_add]
  refine hk _ _ _ _ (k_M_onePair_165 rfl (c_mlead (σ := (f, σ.2)) hM hS (by omega) l12) (fun u hu => ?_))
  subst hu
  rw [l11]
  show J g (d + 6) 108 168 _ _ (f, σ.2) _
  refine jm_run ok_M_onePair [] 90 (fun kk hk => ?_)
  conv => whnf
  rw [sp_sb_d dv.1, show (f, σ.2).1 m 19 = nI base from m19, nI_add]
  refine hk _ _ _ _ (k_M_onePair_179 rfl (c_mlead (σ := (f, σ.2)) hM hS (by omega) l22) (fun u hu => ?_))
  subst hu
  rw [l21]
  show J g (d + 6) 108 182 _ _ (f, σ.2) _
  rw [hpair]
  generalize sp_sb (sp_cm (gl (sp_G st.1) b1) (gl (sp_G st.1) b2)) (gl (sp_G st.1) b1) = a at aok av
  obtain ⟨b, hbe⟩ : ∃ b, b = sp_sb (sp_cm (gl (sp_G st.1) b1) (gl (sp_G st.1) b2)) (gl (sp_G st.1) b2) := ⟨_, rfl⟩
  rw [← hbe] at bok bv ⊢
  have hbad : ∀ (f2 : Nat → Nat → Int32) (T2 : Nat → sp_P) (R : Nat × (Int32 ⊕ sp_ES)) (x3 x4 x5 : Int32) (z7 : Option jm_V), OS σ m f2 T T2 base sh st → f2 m 13 = nI (lim - N) → f2 m 11 = 1 → R = (N, .inl (-7)) → J g (d + 6) 108 316 [some (aR 6 m), some (aI (nI b1)), some (aI (nI b2)), some (aI x3), some (aI x4), some (aI x5), some (aI (nI 151)), z7] [] (f2, σ.2) (jP5 σ m T base sh lim st.1.length R) := by
    intro f2 T2 R x3 x4 x5 z7 hO2 f213 f211 hR
    rw [hR]
    refine jm_run ok_M_onePair [] 90 (fun kk hk => ?_)
    conv => whnf
    refine b_z (b := true) f211 (fun h => by cases h) (fun _ => ?_)
    conv => whnf
    exact hk _ _ _ _ (r_M_onePair_324 (Or.inr rfl) ⟨f2, T2, hO2.1, hO2.2.1, f213, hN, hO2.2.2.2.1, hO2.2.2.2.2.1, hO2.2.2.2.2.2.1, Or.inr ⟨-7, rfl, Or.inr ⟨rfl, hO2.2.2.2.2.2.2, f211⟩, hO2.2.2.1.2.1⟩, rfl⟩)
  refine jm_run ok_M_onePair [] 90 (fun kk hk => ?_)
  conv => whnf
  rw [sp_sb_d dv.2, ← hbe]
  generalize sp_cm (gl (sp_G st.1) b1) (gl (sp_G st.1) b2) = cc
  have hst : jm_wi (f, σ.2) (m + 4) 151 0 = ((jm_wi (f, σ.2) (m + 4) 151 0).1, σ.2) := rfl
  refine jg hM.size ?_
  conv => whnf
  refine jw (i := 151) rfl hM.l4 ?_
  conv => whnf
  rw [hst]
  have hO0 := hO.nil (ρ := σ.2) (p := 151) (by omega) hbase hl24
  have F11 : (jm_wi (f, σ.2) (m + 4) 151 0).1 m 11 = 0 := by rw [jm_wi_q (by omega)]; exact h11
  have F13 : (jm_wi (f, σ.2) (m + 4) 151 0).1 m 13 = nI (lim - N) := by rw [jm_wi_q (by omega)]; exact h13
  generalize (jm_wi (f, σ.2) (m + 4) 151 0).1 = F at hO0 F11 F13
  have hmk0 := MK_fk hMK hO0.1 hO0.2.2.2.1
  rw [hmk0.2.1, nI_add]
  have tb : ∀ (T2 : Nat → sp_P) (f2 : Nat → Nat → Int32), OS σ m f2 T T2 base sh st → T2 (base + b1) = (sp_at0 st.1 b1).1 ∧ T2 (base + b2) = (sp_at0 st.1 b2).1 := fun T2 f2 h => ⟨(h.2.2.1.1 b1 _ g1).1, (h.2.2.1.1 b2 _ g2).1⟩
  refine hk _ _ _ _ (k_M_onePair_211 rfl (c_madds (σ := (F, σ.2)) (A := 1) (B := 1) (fs := 151) (gs := base + b1) hM hmk0.1 hO0.2.1 (by omega) (by omega) (by omega) (by rw [tU_at]; exact sp_pw_nil) (by rw [tU_at]; exact HVp_nil n) (by rw [(tb _ _ hO0).1]; exact w1.1) (by rw [(tb _ _ hO0).1]; exact e1.2.1.1) sp_cf1 aok av F11) (fun u hu => ?_))
  obtain ⟨f2, p2, hf2, hS2, h3, hu⟩ := hu
  subst hu
  rw [tU_at, (tb _ _ hO0).1] at h3
  have hO2 := hO0.fm (ρ := σ.2) hf2 hS2 (by omega) hbase hl24
  have f213 : f2 m 13 = nI (lim - N) := (hf2.2 13 (by decide) (by decide) (by decide)).trans F13
  rw [tU_tU] at hO2
  have hmk2 := MK_fk hMK hO2.1 hO2.2.2.2.1
  show J g (d + 6) 108 214 _ _ (f2, σ.2) _
  -- the shares
  have shares : ∀ (wk : sp_P), sp_pw wk → so j wk → HVp n wk → ∀ (c k : Nat), k + c = sh → ∀ (f3 : Nat → Nat → Int32) (T3 : Nat → sp_P) (ys : List sp_P), OS σ m f3 T T3 base sh st → f3 m 11 = 0 → f3 m 13 = nI (lim - N) → T3 151 = wk → ys.length = k → (∀ k' q, ys[k']? = some q → T3 (154 + k') = q ∧ sp_pw q ∧ HVp n q) → sp_ss j a b (sp_at0 st.1 b1).2 (sp_at0 st.1 b2).2 = (sp_ss j a b ((sp_at0 st.1 b1).2.drop k) ((sp_at0 st.1 b2).2.drop k)).map (fun r => ys ++ r) →
      J g (d + 6) 108 233 [some (aR 6 m), some (aI (nI b1)), some (aI (nI b2)), some (aI (sp_d cc)), some (aI (sp_d a)), some (aI (sp_d b)), some (aI (nI 151)), some (aI (nI k))] [] (f3, σ.2) (jP5 σ m T base sh lim st.1.length (match sp_ss j a b (sp_at0 st.1 b1).2 (sp_at0 st.1 b2).2 with
      | none => (N, .inl (-7))
      | some ss => sp_add j st ss (sp_dl j (sp_G st.1) 1000 N wk (List.replicate (sp_G st.1).length []) []))) := by
    intro wk hww hwo hwv c
    induction c with
    | zero =>
      intro k hkc f3 T3 ys hO3 f311 f313 hT3 hyl hys hsp
      have hmk3 := MK_fk hMK hO3.1 hO3.2.2.2.1
      rw [List.drop_of_length_le (by rw [e1.1]; omega), List.drop_of_length_le (by rw [e2.1]; omega)] at hsp
      have hsp : _ = some (ys ++ []) := hsp
      rw [List.append_nil] at hsp
      rw [hsp]
      have fin : ∀ z7 : Option jm_V, J g (d + 6) 108 316 [some (aR 6 m), some (aI (nI b1)), some (aI (nI b2)), some (aI (sp_d cc)), some (aI (sp_d a)), some (aI (sp_d b)), some (aI (nI 151)), z7] [] (f3, σ.2) (jP5 σ m T base sh lim st.1.length (sp_add j st ys (sp_dl j (sp_G st.1) 1000 N wk (List.replicate (sp_G st.1).length []) []))) := by
        intro z7
        refine jm_run ok_M_onePair [325] 90 (fun kk hk => ?_)
        conv => whnf
        refine b_z (b := false) f311 (fun _ => ?_) (fun h => by cases h)
        conv => whnf
        exact hk _ _ _ _ (c_mpairD hM hMK hSE hO3 f311 f313 hN hT3 hww hwv hwo (by omega) hys)
      refine jm_run ok_M_onePair [316] 90 (fun kk hk => ?_)
      conv => whnf
      refine b_le hmk3.2.2.2.1 rfl (fun _ => ?_) (fun hlt => ?_)
      · conv => whnf
        exact hk _ _ _ _ (fin _)
      · have hwf : ws = false := by
          cases ws with
          | false => rfl
          | true => have : sh = gens := hsh; omega
        have w22 := hmk3.2.2.2.2.1
        rw [hwf] at w22
        conv => whnf
        refine b_z (b := false) w22 (fun _ => ?_) (fun h => by cases h)
        conv => whnf
        exact hk _ _ _ _ (fin _)
    | succ c ih =>
      intro k hkc f3 T3 ys hO3 f311 f313 hT3 hyl hys hsp
      have hmk3 := MK_fk hMK hO3.1 hO3.2.2.2.1
      have hwt : ws = true := by
        cases ws with
        | true => rfl
        | false => have : sh = 0 := hsh; omega
      have hgs : sh = gens := by rw [hsh, hwt]; rfl
      have w22 := hmk3.2.2.2.2.1
      rw [hwt] at w22
      have k1 : k < (sp_at0 st.1 b1).2.length := by rw [e1.1]; omega
      have k2 : k < (sp_at0 st.1 b2).2.length := by rw [e2.1]; omega
      have gk1 : (sp_at0 st.1 b1).2[k]? = some (sp_at0 st.1 b1).2[k] := List.getElem?_eq_getElem k1
      have gk2 : (sp_at0 st.1 b2).2[k]? = some (sp_at0 st.1 b2).2[k] := List.getElem?_eq_getElem k2
      rw [drop_cons gk1, drop_cons gk2, sp_ss] at hsp
      have sw1 := w1.2 _ (List.mem_of_getElem? gk1)
      have sw2 := w2.2 _ (List.mem_of_getElem? gk2)
      have sv1 := e1.2.1.2 _ (List.mem_of_getElem? gk1)
      have sv2 := e2.2.1.2 _ (List.mem_of_getElem? gk2)
      generalize (sp_at0 st.1 b1).2[k] = s1 at gk1 hsp sw1 sv1
      generalize (sp_at0 st.1 b2).2[k] = s2 at gk2 hsp sw2 sv2
      have tc : ∀ (T2 : Nat → sp_P) (f2 : Nat → Nat → Int32), OS σ m f2 T T2 base sh st → T2 (170 + 8 * b1 + k) = s1 ∧ T2 (170 + 8 * b2 + k) = s2 := fun T2 f2 h => ⟨(h.2.2.1.1 b1 _ g1).2.2 k s1 gk1, (h.2.2.1.1 b2 _ g2).2.2 k s2 gk2⟩
      have hst3 : jm_wi (f3, σ.2) (m + 4) (154 + k) 0 = ((jm_wi (f3, σ.2) (m + 4) (154 + k) 0).1, σ.2) := rfl
      have hO30 := hO3.nil (ρ := σ.2) (p := 154 + k) (by omega) hbase hl24
      have H11 : (jm_wi (f3, σ.2) (m + 4) (154 + k) 0).1 m 11 = 0 := by rw [jm_wi_q (by omega)]; exact f311
      have H13 : (jm_wi (f3, σ.2) (m + 4) (154 + k) 0).1 m 13 = nI (lim - N) := by rw [jm_wi_q (by omega)]; exact f313
      refine jm_run ok_M_onePair [233] 90 (fun kk hk => ?_)
      conv => whnf
      refine b_le hmk3.2.2.2.1 rfl (fun h => by omega) (fun _ => ?_)
      conv => whnf
      refine b_z (b := true) w22 (fun h => by cases h) (fun _ => ?_)
      conv => whnf
      refine b_nz (b := false) f311 (fun h => by cases h) (fun _ => ?_)
      conv => whnf
      refine jg hM.size ?_
      conv => whnf
      refine jw (nI_add 154 k) hM.l4 ?_
      conv => whnf
      rw [hst3, show (154 : Int32) + nI k = nI (154 + k) from nI_add 154 k]
      generalize (jm_wi (f3, σ.2) (m + 4) (154 + k) 0).1 = H at hO30 H11 H13
      have hmk30 := MK_fk hMK hO30.1 hO30.2.2.2.1
      refine hk _ _ _ _ (k_M_onePair_283 rfl c_mcof (fun u hu => ?_))
      subst hu
      refine k_M_onePair_286 rfl (c_madds (σ := (H, σ.2)) (A := 1) (B := 1) (fs := 154 + k) (gs := 170 + 8 * b1 + k) hM hmk30.1 hO30.2.1 (by omega) (by omega) (by omega) (by rw [tU_at]; exact sp_pw_nil) (by rw [tU_at]; exact HVp_nil n) (by rw [(tc _ _ hO30).1]; exact sw1) (by rw [(tc _ _ hO30).1]; exact sv1) sp_cf1 aok av H11) (fun u hu => ?_)
      obtain ⟨f4, p4, hf4, hS4, h5, hu⟩ := hu
      subst hu
      rw [tU_at, (tc _ _ hO30).1] at h5
      have hO4 := hO30.fm (ρ := σ.2) hf4 hS4 (by omega) hbase hl24
      rw [tU_tU] at hO4
      have f413 : f4 m 13 = nI (lim - N) := (hf4.2 13 (by decide) (by decide) (by decide)).trans H13
      have hmk4 := MK_fk hMK hO4.1 hO4.2.2.2.1
      have after : ∀ (f5 : Nat → Nat → Int32) (p5 : sp_P), OS σ m f5 T (tU T3 (154 + k) p5) base sh st → f5 m 13 = nI (lim - N) → ((sp_s2 j a b s1 s2 = some p5 ∧ f5 m 11 = 0) ∨ (sp_s2 j a b s1 s2 = none ∧ f5 m 11 = 1)) → J g (d + 6) 108 310 [some (aR 6 m), some (aI (nI b1)), some (aI (nI b2)), some (aI (sp_d cc)), some (aI (sp_d a)), some (aI (sp_d b)), some (aI (nI 151)), some (aI (nI k))] [] (f5, σ.2) (jP5 σ m T base sh lim st.1.length (match sp_ss j a b (sp_at0 st.1 b1).2 (sp_at0 st.1 b2).2 with
          | none => (N, .inl (-7))
          | some ss => sp_add j st ss (sp_dl j (sp_G st.1) 1000 N wk (List.replicate (sp_G st.1).length []) []))) := by
        intro f5 p5 hO5 f513 h7
        have hmk5 := MK_fk hMK hO5.1 hO5.2.2.2.1
        rcases h7 with ⟨h7, f511⟩ | ⟨h7, f511⟩
        · rw [h7] at hsp
          refine jm_run ok_M_onePair [233] 90 (fun kk hk => ?_)
          conv => whnf
          rw [nI_1]
          refine hk _ _ _ _ (ih (k + 1) (by omega) f5 _ (ys ++ [p5]) hO5 f511 f513 (by rw [tU_ne (by omega)]; exact hT3) (by rw [List.length_append, hyl]; rfl) (fun k' q hk' => ?_) ?_)
          · by_cases hkk : k' < k
            · rw [List.getElem?_append_left (by omega)] at hk'
              rw [tU_ne (by omega)]
              exact hys k' q hk'
            · have hlt := (List.getElem?_eq_some_iff.mp hk').1
              rw [List.length_append] at hlt
              have hlt : k' < ys.length + 1 := hlt
              obtain rfl : k' = k := by omega
              rw [List.getElem?_append_right (by omega), hyl, Nat.sub_self] at hk'
              cases hk'
              exact ⟨tU_at _ _ _, sp_s2_w sw1 sw2 h7, HVp_s2 av bv sv1 sv2 h7⟩
          · rw [hsp]
            show ((sp_ss j a b ((sp_at0 st.1 b1).2.drop (k + 1)) ((sp_at0 st.1 b2).2.drop (k + 1))).map (fun r => p5 :: r)).map (fun r => ys ++ r) = _
            cases sp_ss j a b ((sp_at0 st.1 b1).2.drop (k + 1)) ((sp_at0 st.1 b2).2.drop (k + 1)) with
            | none => rfl
            | some r' => show some _ = some _; simp
        · rw [h7] at hsp
          have hsp : sp_ss j a b (sp_at0 st.1 b1).2 (sp_at0 st.1 b2).2 = none := hsp
          have w522 := hmk5.2.2.2.2.1
          rw [hwt] at w522
          refine jm_run ok_M_onePair [316] 90 (fun kk hk => ?_)
          conv => whnf
          rw [nI_1]
          refine b_le hmk5.2.2.2.1 rfl (fun _ => ?_) (fun _ => ?_)
          · conv => whnf
            exact hk _ _ _ _ (hbad f5 _ _ _ _ _ _ hO5 f513 f511 (by rw [hsp]))
          · conv => whnf
            refine b_z (b := true) w522 (fun h => by cases h) (fun _ => ?_)
            conv => whnf
            refine b_nz (b := true) f511 (fun _ => ?_) (fun h => by cases h)
            conv => whnf
            exact hk _ _ _ _ (hbad f5 _ _ _ _ _ _ hO5 f513 f511 (by rw [hsp]))
      show J g (d + 6) 108 289 _ _ (f4, σ.2) _
      refine jm_run ok_M_onePair [310] 90 (fun kk hk => ?_)
      conv => whnf
      rw [show (154 : Int32) + nI k = nI (154 + k) from nI_add 154 k]
      refine hk _ _ _ _ (k_M_onePair_304 rfl c_mcof (fun u hu => ?_))
      subst hu
      rcases h5 with ⟨h5, f411⟩ | ⟨h5, f411⟩
      · refine k_M_onePair_307 rfl (c_madds (σ := (f4, σ.2)) (A := -1) (B := 1) (fs := 154 + k) (gs := 170 + 8 * b2 + k) hM hmk4.1 hO4.2.1 (by omega) (by omega) (by omega) (by rw [tU_at]; exact sp_plus_w sp_cf1 sp_pw_nil sw1.2 h5) (by rw [tU_at]; exact HVp_plus av (HVp_nil n) sv1 h5) (by rw [(tc _ _ hO4).2]; exact sw2) (by rw [(tc _ _ hO4).2]; exact sv2) sp_cfm bok bv f411) (fun u hu => ?_)
        obtain ⟨f5, p5, hf5, hS5, h7, hu⟩ := hu
        subst hu
        rw [tU_at, (tc _ _ hO4).2] at h7
        have hO5 := hO4.fm (ρ := σ.2) hf5 hS5 (by omega) hbase hl24
        rw [tU_tU] at hO5
        refine after f5 p5 hO5 ((hf5.2 13 (by decide) (by decide) (by decide)).trans f413) ?_
        unfold sp_s2
        rw [h5]
        exact h7
      · refine k_M_onePair_307 rfl (c_madds1 (σ := (f4, σ.2)) hM hO4.2.1 (by omega : 170 + 8 * b2 + k < 372) f411) (fun u hu => ?_)
        subst hu
        refine after f4 p4 hO4 f413 (Or.inr ⟨?_, f411⟩)
        unfold sp_s2
        rw [h5]
        rfl
  have after : ∀ (f3 : Nat → Nat → Int32) (p3 : sp_P), OS σ m f3 T (tU T1 151 p3) base sh st → f3 m 13 = nI (lim - N) → ((sp_s2 j a b (sp_at0 st.1 b1).1 (sp_at0 st.1 b2).1 = some p3 ∧ f3 m 11 = 0) ∨ (sp_s2 j a b (sp_at0 st.1 b1).1 (sp_at0 st.1 b2).1 = none ∧ f3 m 11 = 1)) → J g (d + 6) 108 230 [some (aR 6 m), some (aI (nI b1)), some (aI (nI b2)), some (aI (sp_d cc)), some (aI (sp_d a)), some (aI (sp_d b)), some (aI (nI 151)), z7] [] (f3, σ.2) (jP5 σ m T base sh lim st.1.length (match sp_s2 j a b (sp_at0 st.1 b1).1 (sp_at0 st.1 b2).1 with
      | none => (N, .inl (-7))
      | some wk => match sp_ss j a b (sp_at0 st.1 b1).2 (sp_at0 st.1 b2).2 with
        | none => (N, .inl (-7))
        | some ss => sp_add j st ss (sp_dl j (sp_G st.1) 1000 N wk (List.replicate (sp_G st.1).length []) []))) := by
    intro f3 p3 hO3 f313 h7
    have hmk3 := MK_fk hMK hO3.1 hO3.2.2.2.1
    rcases h7 with ⟨h7, f311⟩ | ⟨h7, f311⟩
    · rw [h7]
      refine jm_run ok_M_onePair [233] 90 (fun kk hk => ?_)
      conv => whnf
      refine hk _ _ _ _ (shares p3 (sp_s2_w w1.1 w2.1 h7) (so_s2 w1.1 w2.1 h7) (HVp_s2 av bv e1.2.1.1 e2.2.1.1 h7) sh 0 (by omega) f3 _ [] hO3 f311 f313 (tU_at _ _ _) rfl (fun k' q hk' => (by cases hk')) ?_)
      rw [List.drop_zero, List.drop_zero]
      cases sp_ss j a b (sp_at0 st.1 b1).2 (sp_at0 st.1 b2).2 <;> rfl
    · rw [h7]
      refine jm_run ok_M_onePair [316] 90 (fun kk hk => ?_)
      conv => whnf
      refine b_le (b := 0) hmk3.2.2.2.1 rfl (fun _ => ?_) (fun _ => ?_)
      · conv => whnf
        exact hk _ _ _ _ (hbad f3 _ _ _ _ _ _ hO3 f313 f311 rfl)
      · conv => whnf
        refine b_z (b := ws) hmk3.2.2.2.2.1 (fun _ => ?_) (fun _ => ?_)
        · conv => whnf
          exact hk _ _ _ _ (hbad f3 _ _ _ _ _ _ hO3 f313 f311 rfl)
        · conv => whnf
          refine b_nz (b := true) f311 (fun _ => ?_) (fun h => by cases h)
          conv => whnf
          exact hk _ _ _ _ (hbad f3 _ _ _ _ _ _ hO3 f313 f311 rfl)
  refine jm_run ok_M_onePair [] 90 (fun kk hk => ?_)
  conv => whnf
  rw [show (f2, σ.2).1 m 19 = nI base from hmk2.2.1, nI_add]
  rcases h3 with ⟨h3, f211⟩ | ⟨h3, f211⟩
  · refine hk _ _ _ _ (k_M_onePair_227 rfl (c_madds (σ := (f2, σ.2)) (A := -1) (B := 1) (fs := 151) (gs := base + b2) hM hmk2.1 hO2.2.1 (by omega) (by omega) (by omega) (by rw [tU_at]; exact sp_plus_w sp_cf1 sp_pw_nil w1.1.2 h3) (by rw [tU_at]; exact HVp_plus av (HVp_nil n) e1.2.1.1 h3) (by rw [(tb _ _ hO2).2]; exact w2.1) (by rw [(tb _ _ hO2).2]; exact e2.2.1.1) sp_cfm bok bv f211) (fun u hu => ?_))
    obtain ⟨f3, p3, hf3, hS3, h7, hu⟩ := hu
    subst hu
    rw [tU_at, (tb _ _ hO2).2] at h7
    have hO3 := hO2.fm (ρ := σ.2) hf3 hS3 (by omega) hbase hl24
    rw [tU_tU] at hO3
    refine after f3 p3 hO3 ((hf3.2 13 (by decide) (by decide) (by decide)).trans f213) ?_
    unfold sp_s2
    rw [h3]
    exact h7
  · refine hk _ _ _ _ (k_M_onePair_227 rfl (c_madds1 (σ := (f2, σ.2)) hM hO2.2.1 (by omega : base + b2 < 372) f211) (fun u hu => ?_))
    subst hu
    refine after f2 p2 hO2 f213 (Or.inr ⟨?_, f211⟩)
    unfold sp_s2
    rw [h3]
    rfl
end
