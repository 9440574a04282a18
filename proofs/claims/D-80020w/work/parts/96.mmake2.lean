/-! THE MODEL: make, the generators -/
theorem come_un {j : Nat} : sp_come j [] 1 1 sp_zm = some sp_un := rfl
theorem us_split (sh k g : Nat) (h : k < sh) : (sp_us sh g)[k]? = some (if k = g then sp_un else []) := by
  unfold sp_us
  rw [List.getElem?_map, List.getElem?_range h]
  rfl
section
variable {g : jm_G} {d : Nat} {σ : jm_S} {m : Nat}
set_option maxRecDepth 8000 in
theorem c_makeG {T : Nat → sp_P} {base n j gens sh lim : Nat} {ws : Bool} {gl : List sp_P} (hM : ML g σ m) (hg9 : gl.length ≤ 9) (hgl : ∀ i p, gl[i]? = some p → T (40 + i) = p ∧ sp_pw p ∧ so j p ∧ HVp n p) :
    ∀ (r : List sp_P) (gi : Nat) (st : sp_ES) (f : Nat → Nat → Int32) (T1 : Nat → sp_P) (z5 : Option jm_V), gl.drop gi = r → gi ≤ gl.length → st.1.length ≤ gi → FQ σ m f T T1 base sh → MK f m base n j gens ws sh lim → MS f m T1 → MB f m T1 base sh st → SE j n sh st.1 → f m 11 = 0 → f m 12 = 0 → f m 13 = nI (lim - lim) → f m 24 = nI 0 → f m 25 = nI 0 → sp_gns sh 0 gl ([], fun _ _ => false) = sp_gns sh gi r st →
    J g (d + 7) 103 58 [some (aR 6 m), some (aI (nI base)), some (aI (nI gl.length)), some (aI (sp_bi ws)), some (aI (nI gi)), z5] [] (f, σ.2) (jMk σ m T base sh lim (sp_bas j sh gl lim)) := by
  intro r
  induction r with
  | nil =>
    intro gi st f T1 z5 hdr hgi hsl hQ hMK hS hB hSE h11 h12 h13 h24 h25 hgns
    have hi2 : gl.length ≤ gi := List.drop_eq_nil_iff.mp hdr
    have hbas : sp_bas j sh gl lim = sp_fin j (sp_lp j 300 lim 0 0 st) := by unfold sp_bas; rw [hgns]; rfl
    rw [hbas]
    have hmu0 : sp_mu st < 300 := by
      have h1 := cw_tri st.2 st.1.length
      have h2 : tri st.1.length ≤ 276 := tri_le (b := 24) hSE.2.1
      unfold sp_mu
      omega
    refine jm_run ok_M_make [203] 90 (fun kk hk => ?_)
    conv => whnf
    refine b_le (a := gl.length) (b := gi) rfl rfl (fun _ => ?_) (fun h => by omega)
    conv => whnf
    exact hk _ _ _ _ (c_makeP hM 300 lim 0 0 st f T1 _ hmu0 hQ hMK hS hB hSE h11 h12 h13 (Nat.le_refl _) h24 h25)
  | cons p r ih =>
    intro gi st f T1 z5 hdr hgi hsl hQ hMK hS hB hSE h11 h12 h13 h24 h25 hgns
    obtain ⟨mC, m19, m21, m7, m22, m14, hbase, hg8, hsh, hlim⟩ := id hMK
    have hsh8 := hMK.sh8
    have hti : gl[gi]? = some p := by rw [← Nat.add_zero gi, ← List.getElem?_drop, hdr]; rfl
    have hi2 : gi < gl.length := (List.getElem?_eq_some_iff.mp hti).1
    have hdr2 : gl.drop (gi + 1) = r := by rw [← List.drop_drop, hdr]; rfl
    obtain ⟨p1, p2, p3, p4⟩ := hgl gi p hti
    have hnsl : ¬ sl base sh (40 + gi) := by unfold sl; omega
    have hTg : T1 (40 + gi) = p := (hQ.2.2 _ hnsl).trans p1
    have hPg := (hS (40 + gi) (by omega)).2.1
    rw [hTg] at hPg
    have hpl := p2.1
    rw [sp_gns] at hgns
    by_cases hp0 : p.length = 0
    · have hgen : sp_gen sh gi p st = some st := by unfold sp_gen; rw [if_pos hp0]
      rw [hgen] at hgns
      refine jm_run ok_M_make [58] 90 (fun kk hk => ?_)
      conv => whnf
      refine b_le (a := gl.length) (b := gi) rfl rfl (fun h => by omega) (fun _ => ?_)
      conv => whnf
      refine b_nz (b := false) h11 (fun h => by cases h) (fun _ => ?_)
      conv => whnf
      refine jg hM.size ?_
      conv => whnf
      refine ja (nI_add 40 gi) hM.l4 hPg ?_
      conv => whnf
      refine b_ne (b := 0) rfl rfl (fun h => absurd hp0 h) (fun _ => ?_)
      conv => whnf
      rw [nI_1]
      exact hk _ _ _ _ (ih (gi + 1) st f T1 _ hdr2 (by omega) (by omega) hQ hMK hS hB hSE h11 h12 h13 h24 h25 hgns)
    · have hpne : p ≠ [] := fun q => hp0 (by rw [q]; rfl)
      have hgen : sp_gen sh gi p st = (sp_mon (p, sp_us sh gi)).map (fun E => (st.1 ++ [E], sp_jw st.1.length st.2)) := by unfold sp_gen; rw [if_neg hp0]
      have cofL : ∀ (c k : Nat), k + c = sh → ∀ (f2 : Nat → Nat → Int32) (T2 : Nat → sp_P), FM (f, σ.2) m f2 → f2 m 11 = 0 → MS f2 m T2 → T2 (base + st.1.length) = p → (∀ k', k' < k → T2 (170 + 8 * st.1.length + k') = if k' = gi then sp_un else []) → (∀ q, q ≠ base + st.1.length → ¬ (170 + 8 * st.1.length ≤ q ∧ q < 170 + 8 * st.1.length + sh) → T2 q = T1 q) →
          J g (d + 7) 103 105 [some (aR 6 m), some (aI (nI base)), some (aI (nI gl.length)), some (aI (sp_bi ws)), some (aI (nI gi)), some (aI (nI k))] [] (f2, σ.2) (jMk σ m T base sh lim (sp_bas j sh gl lim)) := by
        intro c
        induction c with
        | zero =>
          intro k hkc f2 T2 hf2 f211 hS2 hT2 hco hq2
          have m2 : ∀ k, k ≠ 11 → k ≠ 16 → k ≠ 17 → f2 m k = f m k := hf2.2
          have hEA : EA5 T2 base sh st.1.length (p, sp_us sh gi) := ⟨hT2, sp_us_len sh gi, fun k' q hk' => by
            have h9 := sp_us_at hk'
            rw [hco k' (by omega), h9.2]⟩
          have hew : sp_ew (p, sp_us sh gi) := ⟨p2, sp_us_w⟩
          have fin : ∀ z5 : Option jm_V, J g (d + 7) 103 164 [some (aR 6 m), some (aI (nI base)), some (aI (nI gl.length)), some (aI (sp_bi ws)), some (aI (nI gi)), z5] [] (f2, σ.2) (jMk σ m T base sh lim (sp_bas j sh gl lim)) := by
            intro z5
            refine jm_run ok_M_make [] 90 (fun kk hk => ?_)
            conv => whnf
            rw [show (f2, σ.2).1 m 20 = nI st.1.length from (m2 20 (by decide) (by decide) (by decide)).trans hB.2.1]
            refine hk _ _ _ _ (k_M_make_169 rfl (c_mmonic (σ := (f2, σ.2)) (d := d + 3) hM hS2 ((m2 19 (by decide) (by decide) (by decide)).trans m19) hbase ((m2 7 (by decide) (by decide) (by decide)).trans m7) hg8 ((m2 22 (by decide) (by decide) (by decide)).trans m22) hsh (by omega : st.1.length ≤ 24) hEA hew hpne f211) (fun u hu => ?_))
            obtain ⟨f3, T3, hf3, hS3, hq3, h4, hu⟩ := hu
            subst hu
            have m3 : ∀ k, k ≠ 11 → k ≠ 16 → k ≠ 17 → f3 m k = f m k := fun k a b c => (hf3.2 k a b c).trans (m2 k a b c)
            have hK3 : FK (f, σ.2) m f3 T1 T3 base sh := ⟨fun q a _ _ => (hf3.1 q a).trans (hf2.1 q a), fun k a => m3 k (fun e => a (by unfold kf; omega)) (fun e => a (by unfold kf; omega)) (fun e => a (by unfold kf; omega)), fun q a => by
              have a1 : q ≠ base + st.1.length := fun e => a (Or.inl (by omega))
              have a2 : ¬ (170 + 8 * st.1.length ≤ q ∧ q < 170 + 8 * st.1.length + sh) := fun e => a (Or.inr (Or.inr (Or.inr ⟨by omega, by omega, by omega⟩)))
              exact (hq3 q a1 a2).trans (hq2 q a1 a2)⟩
            have hQ3 := hQ.fk hK3
            have hold : ∀ i E, st.1[i]? = some E → EA5 T3 base sh i E := fun i E hE => by
              have hi := (List.getElem?_eq_some_iff.mp hE).1
              refine EA5_fr (hB.1 i E hE) ?_ (fun k hk => ?_)
              · exact (hq3 _ (by omega) (by omega)).trans (hq2 _ (by omega) (by omega))
              · exact (hq3 _ (by omega) (by omega)).trans (hq2 _ (by omega) (by omega))
            show J g (d + 7) 103 172 _ _ (f3, σ.2) _
            rcases h4 with ⟨E', h4, hE', f311⟩ | ⟨h4, f311⟩
            · rw [h4] at hgen
              have hgen : sp_gen sh gi p st = some (st.1 ++ [E'], sp_jw st.1.length st.2) := hgen
              rw [hgen] at hgns
              have hSE' := SE_gen hSE (by omega) p3 p2 p4 hgen
              refine jm_run ok_M_make [] 90 (fun kk hk => ?_)
              conv => whnf
              refine b_nz (b := false) f311 (fun h => by cases h) (fun _ => ?_)
              conv => whnf
              rw [show (f3, σ.2).1 m 20 = nI st.1.length from (m3 20 (by decide) (by decide) (by decide)).trans hB.2.1]
              refine hk _ _ _ _ (k_M_make_184 rfl (c_mapairs (σ := (f3, σ.2)) hM (by omega)) (fun u hu => ?_))
              obtain ⟨f4, hf4, hw4, hu⟩ := hu
              subst hu
              have f4m : f4 m = f3 m := hf4 m (by omega)
              have hst : jm_wi (f4, σ.2) m 20 (nI (st.1.length + 1)) = ((jm_wi (f4, σ.2) m 20 (nI (st.1.length + 1))).1, σ.2) := rfl
              have Fk : ∀ k, k ≠ 20 → k ≠ 11 → k ≠ 16 → k ≠ 17 → (jm_wi (f4, σ.2) m 20 (nI (st.1.length + 1))).1 m k = f m k := fun k a b c e => (jm_wi_k a).trans ((congrFun f4m k).trans (m3 k b c e))
              have F20 : (jm_wi (f4, σ.2) m 20 (nI (st.1.length + 1))).1 m 20 = nI (st.1.length + 1) := jm_wi_at
              have F11 : (jm_wi (f4, σ.2) m 20 (nI (st.1.length + 1))).1 m 11 = 0 := (jm_wi_k (by decide)).trans ((congrFun f4m 11).trans f311)
              have Fq : ∀ q, q ≠ m → (jm_wi (f4, σ.2) m 20 (nI (st.1.length + 1))).1 q = f4 q := fun q hq => jm_wi_q hq
              have hKF : FK (f3, σ.2) m (jm_wi (f4, σ.2) m 20 (nI (st.1.length + 1))).1 T3 T3 base sh := ⟨fun q a b c => (jm_wi_q (by omega)).trans (hf4 q b), fun k a => (jm_wi_k (fun e => a (by unfold kf; omega))).trans (congrFun f4m k), fun _ _ => rfl⟩
              have hQF := hQ3.fk hKF
              show J g (d + 7) 103 187 _ _ (f4, σ.2) _
              refine jm_run ok_M_make [58] 90 (fun kk hk => ?_)
              conv => whnf
              rw [show (f4, σ.2).1 m 20 = nI st.1.length from (congrFun f4m 20).trans ((m3 20 (by decide) (by decide) (by decide)).trans hB.2.1), nI_1, nI_1, hst]
              generalize (jm_wi (f4, σ.2) m 20 (nI (st.1.length + 1))).1 = F at Fk F20 F11 Fq hQF
              have e1 : (st.1 ++ [E']).length = st.1.length + 1 := by rw [List.length_append]; rfl
              have hBF : MB F m T3 base sh (st.1 ++ [E'], sp_jw st.1.length st.2) := by
                refine ⟨fun i E hE => ?_, by rw [e1]; exact F20, fun i k a b => ?_⟩
                · by_cases hi : i < st.1.length
                  · rw [List.getElem?_append_left hi] at hE
                    exact hold i E hE
                  · have hlt : i < (st.1 ++ [E']).length := (List.getElem?_eq_some_iff.mp hE).1
                    obtain rfl : i = st.1.length := by omega
                    rw [List.getElem?_append_right (Nat.le_refl _), Nat.sub_self] at hE
                    cases hE
                    exact hE'
                · have b : k < (st.1 ++ [E']).length := b
                  rw [Fq (m + 7) (by omega), hw4 i k (by omega)]
                  show _ = sp_bi (if k = st.1.length then true else st.2 i k)
                  by_cases hk : k = st.1.length
                  · rw [if_pos ⟨hk, by omega⟩, if_pos hk]; rfl
                  · rw [if_neg (fun q => hk q.1), if_neg hk]
                    exact (congrFun (hf3.1 (m + 7) (by omega)) _).trans ((congrFun (hf2.1 (m + 7) (by omega)) _).trans (hB.2.2 i k a (by omega)))
              refine hk _ _ _ _ (ih (gi + 1) (st.1 ++ [E'], sp_jw st.1.length st.2) F T3 _ hdr2 (by omega) (by show (st.1 ++ [E']).length ≤ gi + 1; omega) hQF (MK_fr hMK (Fk 1 (by decide) (by decide) (by decide) (by decide)) (Fk 2 (by decide) (by decide) (by decide) (by decide)) (Fk 19 (by decide) (by decide) (by decide) (by decide)) (Fk 21 (by decide) (by decide) (by decide) (by decide)) (Fk 7 (by decide) (by decide) (by decide) (by decide)) (Fk 22 (by decide) (by decide) (by decide) (by decide)) (Fk 14 (by decide) (by decide) (by decide) (by decide))) (MS_fr hS3 (fun q a b => (Fq q (by omega)).trans (hf4 q (by omega)))) hBF hSE'.1 F11 ((Fk 12 (by decide) (by decide) (by decide) (by decide)).trans h12) ((Fk 13 (by decide) (by decide) (by decide) (by decide)).trans h13) ((Fk 24 (by decide) (by decide) (by decide) (by decide)).trans h24) ((Fk 25 (by decide) (by decide) (by decide) (by decide)).trans h25) hgns)
            · rw [h4] at hgen
              have hgen : sp_gen sh gi p st = none := hgen
              rw [hgen] at hgns
              have hbas : sp_bas j sh gl lim = (lim, (0, (0, (st.1.length, .inl (-7))))) := by unfold sp_bas; rw [hgns]
              rw [hbas]
              have hF := c_makeF (g := g) (d := d + 7) (σ := σ) (T := T) (x := -7) (many := gl.length) (x3 := sp_bi ws) (z4 := some (aI (nI (gi + 1)))) (z5 := z5) hQ3 hS3 ((m3 13 (by decide) (by decide) (by decide)).trans h13) ((m3 24 (by decide) (by decide) (by decide)).trans h24) ((m3 25 (by decide) (by decide) (by decide)).trans h25) ((m3 20 (by decide) (by decide) (by decide)).trans hB.2.1) hSE.2.1 (Or.inr ⟨rfl, (m3 12 (by decide) (by decide) (by decide)).trans h12, f311⟩)
              have to237 : J g (d + 7) 103 203 [some (aR 6 m), some (aI (nI base)), some (aI (nI gl.length)), some (aI (sp_bi ws)), some (aI (nI (gi + 1))), z5] [] (f3, σ.2) (jMk σ m T base sh lim (lim, (0, (0, (st.1.length, .inl (-7)))))) := by
                refine jm_run ok_M_make [237] 90 (fun kk hk => ?_)
                conv => whnf
                refine b_nz (b := true) f311 (fun _ => ?_) (fun h => by cases h)
                conv => whnf
                exact hk _ _ _ _ hF
              refine jm_run ok_M_make [203] 90 (fun kk hk => ?_)
              conv => whnf
              refine b_nz (b := true) f311 (fun _ => ?_) (fun h => by cases h)
              conv => whnf
              rw [nI_1]
              refine b_le (a := gl.length) (b := gi + 1) rfl rfl (fun _ => ?_) (fun _ => ?_)
              · conv => whnf
                exact hk _ _ _ _ to237
              · conv => whnf
                refine b_nz (b := true) f311 (fun _ => ?_) (fun h => by cases h)
                conv => whnf
                exact hk _ _ _ _ to237
          refine jm_run ok_M_make [164] 90 (fun kk hk => ?_)
          conv => whnf
          refine b_le ((m2 7 (by decide) (by decide) (by decide)).trans m7) rfl (fun _ => ?_) (fun hlt => ?_)
          · conv => whnf
            exact hk _ _ _ _ (fin _)
          · have hwf : ws = false := by
              cases ws with
              | false => rfl
              | true => have : sh = gens := hsh; omega
            conv => whnf
            refine b_z (b := ws) rfl (fun _ => ?_) (fun h => by rw [hwf] at h; cases h)
            conv => whnf
            exact hk _ _ _ _ (fin _)
        | succ c ih2 =>
          intro k hkc f2 T2 hf2 f211 hS2 hT2 hco hq2
          have m2 : ∀ k, k ≠ 11 → k ≠ 16 → k ≠ 17 → f2 m k = f m k := hf2.2
          have hwt : ws = true := by
            cases ws with
            | true => rfl
            | false => have : sh = 0 := hsh; omega
          have hgs : sh = gens := by rw [hsh, hwt]; rfl
          have f220 : f2 m 20 = nI st.1.length := (m2 20 (by decide) (by decide) (by decide)).trans hB.2.1
          have hst : jm_wi (f2, σ.2) (m + 4) (170 + 8 * st.1.length + k) 0 = ((jm_wi (f2, σ.2) (m + 4) (170 + 8 * st.1.length + k) 0).1, σ.2) := rfl
          have hSn := MS_nil (ρ := σ.2) (p := 170 + 8 * st.1.length + k) hS2
          have hFn : FM (f, σ.2) m (jm_wi (f2, σ.2) (m + 4) (170 + 8 * st.1.length + k) 0).1 := ⟨fun q hq => (jm_wi_q (by omega)).trans (hf2.1 q hq), fun k a b c => by rw [jm_wi_q (by omega)]; exact m2 k a b c⟩
          have Hm : (jm_wi (f2, σ.2) (m + 4) (170 + 8 * st.1.length + k) 0).1 m = f2 m := jm_wi_q (by omega)
          have nxq : ∀ l : sp_P, ∀ q, q ≠ base + st.1.length → ¬ (170 + 8 * st.1.length ≤ q ∧ q < 170 + 8 * st.1.length + sh) → tU T2 (170 + 8 * st.1.length + k) l q = T1 q := fun l q a b => by rw [tU_ne (by omega)]; exact hq2 q a b
          refine jm_run ok_M_make [105] 90 (fun kk hk => ?_)
          conv => whnf
          refine b_le ((m2 7 (by decide) (by decide) (by decide)).trans m7) rfl (fun h => by omega) (fun _ => ?_)
          conv => whnf
          refine b_z (b := ws) rfl (fun h => by rw [hwt] at h; cases h) (fun _ => ?_)
          conv => whnf
          refine jg hM.size ?_
          conv => whnf
          rw [show (f2, σ.2).1 m 20 = nI st.1.length from f220]
          refine hk _ _ _ _ (k_M_make_129 rfl c_mcof (fun u hu => ?_))
          subst hu
          show J g (d + 7) 103 132 _ _ (f2, σ.2) _
          refine jm_run ok_M_make [105] 90 (fun kk hk => ?_)
          conv => whnf
          refine jw (i := 170 + 8 * st.1.length + k) rfl hM.l4 ?_
          conv => whnf
          rw [hst]
          generalize (jm_wi (f2, σ.2) (m + 4) (170 + 8 * st.1.length + k) 0).1 = H at hSn hFn Hm
          refine b_ne (a := k) (b := gi) rfl rfl (fun hne => ?_) (fun heq => ?_)
          · conv => whnf
            rw [nI_1]
            refine hk _ _ _ _ (ih2 (k + 1) (by omega) H _ hFn ((congrFun Hm 11).trans f211) hSn (by rw [tU_ne (by omega)]; exact hT2) (fun k' hk' => ?_) (nxq []))
            by_cases hkk : k' = k
            · subst hkk; rw [tU_at, if_neg hne]
            · rw [tU_ne (by omega)]; exact hco k' (by omega)
          · conv => whnf
            rw [show (H, σ.2).1 m 20 = nI st.1.length from (congrFun Hm 20).trans f220]
            refine hk _ _ _ _ (k_M_make_149 rfl c_mcof (fun u hu => ?_))
            subst hu
            show J g (d + 7) 103 152 _ _ (H, σ.2) _
            refine jm_run ok_M_make [105] 90 (fun kk hk => ?_)
            conv => whnf
            refine hk _ _ _ _ (k_M_make_155 rfl (c_mcomes (σ := (H, σ.2)) (d := d + 3) (p := 170 + 8 * st.1.length + k) (A := 1) (B := 1) (mo := sp_zm) hM ⟨(congrFun Hm 1).trans ((m2 1 (by decide) (by decide) (by decide)).trans mC.1), (congrFun Hm 2).trans ((m2 2 (by decide) (by decide) (by decide)).trans mC.2.1), mC.2.2⟩ hSn (by omega) (by rw [tU_at]; exact sp_pw_nil) (by rw [tU_at]; exact HVp_nil n) (by decide) (by decide) sp_zm_ok (HV_zm n) ((congrFun Hm 11).trans f211)) (fun u hu => ?_))
            obtain ⟨f5, l5, hf5, hS5, h6, hu⟩ := hu
            subst hu
            rw [tU_at, come_un] at h6
            rw [tU_tU] at hS5
            show J g (d + 7) 103 158 _ _ (f5, σ.2) _
            rcases h6 with ⟨h6, f511⟩ | ⟨h6, -⟩
            · have h6 := Option.some.inj h6
              subst h6
              refine jm_run ok_M_make [105] 90 (fun kk hk => ?_)
              conv => whnf
              rw [nI_1]
              refine hk _ _ _ _ (ih2 (k + 1) (by omega) f5 _ (hFn.trans (ρ := σ.2) hf5) f511 hS5 (by rw [tU_ne (by omega)]; exact hT2) (fun k' hk' => ?_) (nxq sp_un))
              by_cases hkk : k' = k
              · subst hkk; rw [tU_at, if_pos heq]
              · rw [tU_ne (by omega)]; exact hco k' (by omega)
            · cases h6
      refine jm_run ok_M_make [] 90 (fun kk hk => ?_)
      conv => whnf
      refine b_le (a := gl.length) (b := gi) rfl rfl (fun h => by omega) (fun _ => ?_)
      conv => whnf
      refine b_nz (b := false) h11 (fun h => by cases h) (fun _ => ?_)
      conv => whnf
      refine jg hM.size ?_
      conv => whnf
      refine ja (nI_add 40 gi) hM.l4 hPg ?_
      conv => whnf
      refine b_ne (b := 0) rfl rfl (fun _ => ?_) (fun h => absurd h hp0)
      conv => whnf
      rw [show (40 : Int32) + nI gi = nI (40 + gi) from nI_add 40 gi, show (f, σ.2).1 m 20 = nI st.1.length from hB.2.1, nI_add]
      refine hk _ _ _ _ (k_M_make_99 rfl (c_mcopy (σ := (f, σ.2)) (a := 40 + gi) (b := base + st.1.length) hM hS (by omega) (by omega) (by omega)) (fun u hu => ?_))
      obtain ⟨f2, hf2, hS2, hu⟩ := hu
      subst hu
      rw [hTg] at hS2
      have f2m : f2 m = f m := hf2 m (by omega)
      show J g (d + 7) 103 102 _ _ (f2, σ.2) _
      refine jm_run ok_M_make [105] 90 (fun kk hk => ?_)
      conv => whnf
      exact hk _ _ _ _ (cofL sh 0 (by omega) f2 _ ⟨fun q hq => hf2 q (by omega), fun k _ _ _ => congrFun f2m k⟩ ((congrFun f2m 11).trans h11) hS2 (tU_at _ _ _) (fun k' h => absurd h (Nat.not_lt_zero _)) (fun q a _ => tU_ne a))
theorem c_mmake {T : Nat → sp_P} {base n j gens lim : Nat} {ws : Bool} {gl : List sp_P} (hM : ML g σ m) (hC : MC σ.1 m n j) (hS : MS σ.1 m T) (hbase : base = 50 ∨ base = 75) (h7 : σ.1 m 7 = nI gens) (hg8 : gens ≤ 8) (h14 : σ.1 m 14 = nI lim) (hlim : lim ≤ 20000) (h11 : σ.1 m 11 = 0) (h12 : σ.1 m 12 = 0) (h13 : σ.1 m 13 = 0) (hg9 : gl.length ≤ 9) (hgl : ∀ i p, gl[i]? = some p → T (40 + i) = p ∧ sp_pw p ∧ so j p ∧ HVp n p) :
    J g (d + 7) 103 0 [some (aR 6 m), some (aI (nI base)), some (aI (nI gl.length)), some (aI (sp_bi ws)), none, none] [] σ (jMk σ m T base (cond ws gens 0) lim (sp_bas j (cond ws gens 0) gl lim)) := by
  have fldk : ∀ (a b c x y z : Int32) (k : Nat), (jm_wi (jm_wi (jm_wi (jm_wi (jm_wi (jm_wi σ m 19 a) m 20 b) m 21 c) m 22 x) m 24 y) m 25 z).1 m k = if k = 25 then z else if k = 24 then y else if k = 22 then x else if k = 21 then c else if k = 20 then b else if k = 19 then a else σ.1 m k := by
    intro a b c x y z k
    simp only [jm_wi_1, true_and]
  have fldq : ∀ (a b c x y z : Int32) (q : Nat), q ≠ m → (jm_wi (jm_wi (jm_wi (jm_wi (jm_wi (jm_wi σ m 19 a) m 20 b) m 21 c) m 22 x) m 24 y) m 25 z).1 q = σ.1 q := by
    intro a b c x y z q hq
    rw [jm_wi_q hq, jm_wi_q hq, jm_wi_q hq, jm_wi_q hq, jm_wi_q hq, jm_wi_q hq]
  have hst : ∀ (a b c x y z : Int32), jm_wi (jm_wi (jm_wi (jm_wi (jm_wi (jm_wi σ m 19 a) m 20 b) m 21 c) m 22 x) m 24 y) m 25 z = ((jm_wi (jm_wi (jm_wi (jm_wi (jm_wi (jm_wi σ m 19 a) m 20 b) m 21 c) m 22 x) m 24 y) m 25 z).1, σ.2) := fun _ _ _ _ _ _ => rfl
  refine jm_run ok_M_make [33] 90 (fun kk hk => ?_)
  conv => whnf
  refine ⟨sp_bi_01 ws, ?_⟩
  conv => whnf
  rw [hst]
  refine hk _ _ _ _ ?_
  have Fk := fldk (nI base) 0 (-1) (sp_bi ws) 0 0
  have Fq := fldq (nI base) 0 (-1) (sp_bi ws) 0 0
  generalize (jm_wi (jm_wi (jm_wi (jm_wi (jm_wi (jm_wi σ m 19 (nI base)) m 20 0) m 21 (-1)) m 22 (sp_bi ws)) m 24 0) m 25 0).1 = F at Fk Fq
  have loop : ∀ (c k : Nat), k + c = 625 → ∀ f : Nat → Nat → Int32, (∀ q, q ≠ m + 7 → f q = F q) → J g (d + 7) 103 33 [some (aR 6 m), some (aI (nI base)), some (aI (nI gl.length)), some (aI (sp_bi ws)), some (aI (nI k)), none] [] (f, σ.2) (jMk σ m T base (cond ws gens 0) lim (sp_bas j (cond ws gens 0) gl lim)) := by
    intro c
    induction c with
    | zero =>
      intro k hk0 f hf
      obtain rfl : k = 625 := by omega
      have fm : ∀ k, f m k = F m k := fun k => congrFun (hf m (by omega)) k
      have o : ∀ k, k ≠ 25 → k ≠ 24 → k ≠ 22 → k ≠ 21 → k ≠ 20 → k ≠ 19 → f m k = σ.1 m k := fun k a b c d e i => by
        rw [fm, Fk, if_neg a, if_neg b, if_neg c, if_neg d, if_neg e, if_neg i]
      have f20 : f m 20 = 0 := by rw [fm, Fk]; rfl
      refine jm_run ok_M_make [58] 90 (fun kk hk => ?_)
      conv => whnf
      refine b_le (a := 625) (b := 625) rfl rfl (fun _ => ?_) (fun h => by omega)
      conv => whnf
      refine hk _ _ _ _ (c_makeG hM hg9 hgl gl 0 ([], fun _ _ => false) f T _ rfl (Nat.zero_le _) (Nat.le_refl _) ⟨fun q a b c => (hf q b).trans (Fq q (by omega)), fun k a b c => ?_, fun _ _ => rfl⟩ ⟨⟨(o 1 (by decide) (by decide) (by decide) (by decide) (by decide) (by decide)).trans hC.1, (o 2 (by decide) (by decide) (by decide) (by decide) (by decide) (by decide)).trans hC.2.1, hC.2.2⟩, by rw [fm, Fk]; rfl, by rw [fm, Fk]; rfl, (o 7 (by decide) (by decide) (by decide) (by decide) (by decide) (by decide)).trans h7, by rw [fm, Fk]; rfl, (o 14 (by decide) (by decide) (by decide) (by decide) (by decide) (by decide)).trans h14, hbase, hg8, rfl, hlim⟩ (MS_fr hS (fun q a b => (hf q (by omega)).trans (Fq q (by omega)))) ⟨fun i E hE => (by cases hE), f20, fun i k a b => absurd b (Nat.not_lt_zero _)⟩ (SE_nil _ _ _) ((o 11 (by decide) (by decide) (by decide) (by decide) (by decide) (by decide)).trans h11) ((o 12 (by decide) (by decide) (by decide) (by decide) (by decide) (by decide)).trans h12) ?_ (by rw [fm, Fk]; rfl) (by rw [fm, Fk]; rfl) rfl)
      · exact o k (fun e => a (by unfold kf; omega)) (fun e => a (by unfold kf; omega)) c (fun e => a (by unfold kf; omega)) (fun e => a (by unfold kf; omega)) b
      · rw [Nat.sub_self]; exact (o 13 (by decide) (by decide) (by decide) (by decide) (by decide) (by decide)).trans h13
    | succ c ih =>
      intro k hk0 f hf
      have hst2 : jm_wi (f, σ.2) (m + 7) k 0 = ((jm_wi (f, σ.2) (m + 7) k 0).1, σ.2) := rfl
      refine jm_run ok_M_make [33] 90 (fun kk hk => ?_)
      conv => whnf
      refine b_le (a := 625) (b := k) rfl rfl (fun h => by omega) (fun _ => ?_)
      conv => whnf
      refine jg hM.waits ?_
      conv => whnf
      refine ⟨Or.inl rfl, ?_⟩
      refine jw (i := k) rfl hM.l7 ?_
      conv => whnf
      rw [hst2, nI_1]
      exact hk _ _ _ _ (ih (k + 1) (by omega) _ (fun q hq => (jm_wi_q hq).trans (hf q hq)))
  exact loop 625 0 (by omega) F (fun _ _ => rfl)
end
