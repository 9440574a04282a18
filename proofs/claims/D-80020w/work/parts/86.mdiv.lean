/-! THE MODEL: divided -/
/-- quotients 0 .. k-1 are empty -/
def clr (T : Nat → sp_P) (k : Nat) : Nat → sp_P := fun q => if 100 ≤ q ∧ q < 100 + k then [] else T q
theorem clr_0 (T : Nat → sp_P) : clr T 0 = T := by
  funext q
  unfold clr
  rw [if_neg (by omega)]
theorem clr_s (T : Nat → sp_P) (k : Nat) : tU (clr T k) (100 + k) [] = clr T (k + 1) := by
  funext q
  unfold tU clr
  by_cases h : q = 100 + k
  · rw [if_pos h, if_pos (by omega)]
  · rw [if_neg h]
    by_cases h2 : 100 ≤ q ∧ q < 100 + k
    · rw [if_pos h2, if_pos (by omega)]
    · rw [if_neg h2, if_neg (by omega)]
/-- what dividing changes -/
def FD5 (σ : jm_S) (m : Nat) (f : Nat → Nat → Int32) : Prop := (∀ q, ¬ (m ≤ q ∧ q ≤ m + 4) → f q = σ.1 q) ∧ ∀ k, k ≠ 11 → k ≠ 12 → k ≠ 13 → k ≠ 16 → k ≠ 17 → f m k = σ.1 m k
theorem FD5.fm {σ : jm_S} {m : Nat} {f f' : Nat → Nat → Int32} {ρ : (Nat → Nat → Nat) × (Nat × Nat)} (h : FD5 σ m f) (h' : FM (f, ρ) m f') : FD5 σ m f' := ⟨fun q hq => (h'.1 q hq).trans (h.1 q hq), fun k a b c e i => (h'.2 k a e i).trans (h.2 k a b c e i)⟩
/-- the flags tell how it ended -/
def flg (f : Nat → Nat → Int32) (m : Nat) (x : Int32) : Prop := (x = -6 ∧ f m 12 = 1 ∧ f m 11 = 0) ∨ (x = -7 ∧ f m 12 = 0 ∧ f m 11 = 1)
def jD5 (σ : jm_S) (m : Nat) (T : Nat → sp_P) (lim : Nat) (o : Nat × (Int32 ⊕ (List sp_P × sp_P))) : jm_O → Prop := fun u => ∃ f T', FD5 σ m f ∧ MS f m T' ∧ (∀ q, q ≠ 151 → q ≠ 152 → ¬ (100 ≤ q ∧ q < 125) → T' q = T q) ∧ f m 13 = nI (lim - o.1) ∧ o.1 ≤ lim ∧ ((∃ qs rest, o.2 = .inr (qs, rest) ∧ f m 11 = 0 ∧ f m 12 = 0 ∧ T' 152 = rest ∧ ∀ i p, qs[i]? = some p → T' (100 + i) = p) ∨ (∃ x, o.2 = .inl x ∧ flg f m x)) ∧ u = ((f, σ.2), .inl none)
section
variable {g : jm_G} {d : Nat} {σ : jm_S} {m : Nat}
set_option maxRecDepth 8000 in
theorem c_mdivided {T : Nat → sp_P} {base n j bt c lim : Nat} {btx : Int32} {G : List sp_P} {w : sp_P} (hM : ML g σ m) (hC : MC σ.1 m n j) (hT : MS σ.1 m T) (hbase : base = 50 ∨ base = 75) (h19 : σ.1 m 19 = nI base) (h20 : σ.1 m 20 = nI G.length) (hG24 : G.length ≤ 24) (h21 : σ.1 m 21 = btx) (hbt : ∀ i, i < 24 → (nI i = btx ↔ i = bt))
    (hG : ∀ i p, G[i]? = some p → T (base + i) = p ∧ sp_pw p ∧ p ≠ [] ∧ HVp n p) (hW : T 151 = w) (hww : sp_pw w) (hwv : HVp n w) (h11 : σ.1 m 11 = 0) (h12 : σ.1 m 12 = 0) (h13 : σ.1 m 13 = nI c) (h14 : σ.1 m 14 = nI lim) (hcl : c ≤ lim) (hlim : lim ≤ 20000) :
    J g (d + 5) 114 0 [some (aR 6 m), some (aI (nI 151)), some (aI (nI 152)), none, none, none, none, none, none, none, none, none] [] σ (jD5 σ m T lim (sp_dl j G bt (lim - c) w (List.replicate G.length []) [])) := by
  have main : ∀ (N : Nat) (w : sp_P) (qs : List sp_P) (rest : sp_P) (f : Nat → Nat → Int32) (T' : Nat → sp_P) (o : Nat × (Int32 ⊕ (List sp_P × sp_P))) (z3 z4 z5 z6 z7 z8 z9 z10 z11 : Option jm_V), N ≤ lim → FD5 σ m f → MS f m T' → (∀ q, q ≠ 151 → q ≠ 152 → ¬ (100 ≤ q ∧ q < 125) → T' q = T q) → f m 13 = nI (lim - N) → f m 11 = 0 → f m 12 = 0 → T' 151 = w → T' 152 = rest → (∀ i p, qs[i]? = some p → T' (100 + i) = p ∧ sp_pw p ∧ HVp n p) → qs.length = G.length → sp_pw w → HVp n w → sp_pw rest → HVp n rest → o = sp_dl j G bt N w qs rest →
      J g (d + 5) 114 31 [some (aR 6 m), some (aI (nI 151)), some (aI (nI 152)), z3, z4, z5, z6, z7, z8, z9, z10, z11] [] (f, σ.2) (jD5 σ m T lim o) := by
    intro N
    induction N with
    | zero =>
      intro w qs rest f T' o z3 z4 z5 z6 z7 z8 z9 z10 z11 hN hf hS hq f13 f11 f12 hTw hTr hTq hql ww wv rw rv hO
      have h4 := (hS 151 (by omega)).2.1
      rw [hTw] at h4
      have hwl := ww.1
      cases w with
      | nil =>
        rw [sp_dl] at hO
        subst hO
        refine jm_run ok_M_divided [] 90 (fun kk hk => ?_)
        conv => whnf
        refine jg hM.size ?_
        conv => whnf
        refine ja rfl hM.l4 h4 ?_
        conv => whnf
        refine b_le (a := 0) (b := 0) rfl rfl (fun _ => ?_) (fun h => by omega)
        conv => whnf
        exact hk _ _ _ _ (r_M_divided_397 ⟨f, T', hf, hS, hq, f13, hN, Or.inl ⟨qs, rest, rfl, f11, f12, hTr, fun i p hp => (hTq i p hp).1⟩, rfl⟩)
      | cons t w =>
        rw [sp_dl] at hO
        subst hO
        have f14 : f m 14 = nI lim := (hf.2 14 (by decide) (by decide) (by decide) (by decide) (by decide)).trans h14
        have hst : jm_wi (f, σ.2) m 12 1 = ((jm_wi (f, σ.2) m 12 1).1, σ.2) := rfl
        refine jm_run ok_M_divided [] 90 (fun kk hk => ?_)
        conv => whnf
        refine jg hM.size ?_
        conv => whnf
        refine ja rfl hM.l4 h4 ?_
        conv => whnf
        refine b_le (a := (t :: w).length) (b := 0) rfl rfl (fun h => by rw [List.length_cons] at h; omega) (fun _ => ?_)
        conv => whnf
        refine b_nz (b := false) f11 (fun h => by cases h) (fun _ => ?_)
        conv => whnf
        refine b_ne f13 f14 (fun h => by omega) (fun _ => ?_)
        conv => whnf
        refine ⟨Or.inr rfl, ?_⟩
        conv => whnf
        rw [hst]
        exact hk _ _ _ _ (r_M_divided_63 ⟨(jm_wi (f, σ.2) m 12 1).1, T', ⟨fun q hq => (jm_wi_q (by omega)).trans (hf.1 q hq), fun k a b c e i => (jm_wi_k b).trans (hf.2 k a b c e i)⟩, MS_fr hS (fun q h1 _ => jm_wi_q (by omega)), hq, (jm_wi_k (by decide)).trans f13, hN, Or.inr ⟨-6, rfl, Or.inl ⟨rfl, jm_wi_at, (jm_wi_k (by decide)).trans f11⟩⟩, rfl⟩)
    | succ N ih =>
      intro w qs rest f T' o z3 z4 z5 z6 z7 z8 z9 z10 z11 hN hf hS hq f13 f11 f12 hTw hTr hTq hql ww wv rw rv hO
      have h4 := (hS 151 (by omega)).2.1
      rw [hTw] at h4
      have hwl := ww.1
      cases w with
      | nil =>
        rw [sp_dl] at hO
        subst hO
        refine jm_run ok_M_divided [] 90 (fun kk hk => ?_)
        conv => whnf
        refine jg hM.size ?_
        conv => whnf
        refine ja rfl hM.l4 h4 ?_
        conv => whnf
        refine b_le (a := 0) (b := 0) rfl rfl (fun _ => ?_) (fun h => by omega)
        conv => whnf
        exact hk _ _ _ _ (r_M_divided_397 ⟨f, T', hf, hS, hq, f13, hN, Or.inl ⟨qs, rest, rfl, f11, f12, hTr, fun i p hp => (hTq i p hp).1⟩, rfl⟩)
      | cons t w =>
        rw [sp_dl] at hO
        have f14 : f m 14 = nI lim := (hf.2 14 (by decide) (by decide) (by decide) (by decide) (by decide)).trans h14
        have tw := ww.2 t (List.mem_cons_self ..)
        have tv := wv t (List.mem_cons_self ..)
        rw [List.length_cons] at hwl
        have wl : (t :: w).length = w.length + 1 := rfl
        have hst : jm_wi (f, σ.2) m 13 (nI (lim - N)) = ((jm_wi (f, σ.2) m 13 (nI (lim - N))).1, σ.2) := rfl
        have g13 : (jm_wi (f, σ.2) m 13 (nI (lim - N))).1 m 13 = nI (lim - N) := jm_wi_at
        have g11 : (jm_wi (f, σ.2) m 13 (nI (lim - N))).1 m 11 = 0 := (jm_wi_k (by decide)).trans f11
        have g12 : (jm_wi (f, σ.2) m 13 (nI (lim - N))).1 m 12 = 0 := (jm_wi_k (by decide)).trans f12
        have gf : FD5 σ m (jm_wi (f, σ.2) m 13 (nI (lim - N))).1 := ⟨fun q hq => (jm_wi_q (by omega)).trans (hf.1 q hq), fun k a b c e i => (jm_wi_k c).trans (hf.2 k a b c e i)⟩
        have gS : MS (jm_wi (f, σ.2) m 13 (nI (lim - N))).1 m T' := MS_fr hS (fun q h1 _ => jm_wi_q (by omega))
        refine jm_run ok_M_divided [] 90 (fun kk hk => ?_)
        conv => whnf
        refine jg hM.size ?_
        conv => whnf
        refine ja rfl hM.l4 h4 ?_
        conv => whnf
        refine b_le (a := (t :: w).length) (b := 0) rfl rfl (fun h => by omega) (fun _ => ?_)
        conv => whnf
        refine b_nz (b := false) f11 (fun h => by cases h) (fun _ => ?_)
        conv => whnf
        refine b_ne f13 f14 (fun _ => ?_) (fun h => by omega)
        conv => whnf
        rw [show (f, σ.2).1 m 13 = nI (lim - (N + 1)) from f13, nI_1, show lim - (N + 1) + 1 = lim - N by omega, hst]
        generalize (jm_wi (f, σ.2) m 13 (nI (lim - N))).1 = F at g13 g11 g12 gf gS
        refine hk _ _ _ _ (k_M_divided_76 rfl (c_mlead (σ := (F, σ.2)) hM gS (by omega : 151 < 372) (by rw [hTw]; exact List.cons_ne_nil _ _)) (fun u hu => ?_))
        subst hu
        rw [hTw]
        show J g (d + 5) 114 79 _ [aI (sp_d t.2.2)] (F, σ.2) _
        have F19 : F m 19 = nI base := (gf.2 19 (by decide) (by decide) (by decide) (by decide) (by decide)).trans h19
        have F20 : F m 20 = nI G.length := (gf.2 20 (by decide) (by decide) (by decide) (by decide) (by decide)).trans h20
        have F21 : F m 21 = btx := (gf.2 21 (by decide) (by decide) (by decide) (by decide) (by decide)).trans h21
        have FC : MC F m n j := ⟨(gf.2 1 (by decide) (by decide) (by decide) (by decide) (by decide)).trans hC.1, (gf.2 2 (by decide) (by decide) (by decide) (by decide) (by decide)).trans hC.2.1, hC.2.2⟩
        have hP := (gS 151 (by omega)).2
        rw [hTw] at hP
        have row := hP.2 0 t rfl
        have full : ∀ (f2 : Nat → Nat → Int32) (T2 : Nat → sp_P) (z3 z4 z5 z6 z7 z8 z9 z10 z11 : Option jm_V), FD5 σ m f2 → MS f2 m T2 → (∀ q, q ≠ 151 → q ≠ 152 → ¬ (100 ≤ q ∧ q < 125) → T2 q = T q) → f2 m 13 = nI (lim - N) → f2 m 11 = 1 → f2 m 12 = 0 → o = (N, .inl (-7)) → J g (d + 5) 114 31 [some (aR 6 m), some (aI (nI 151)), some (aI (nI 152)), z3, z4, z5, z6, z7, z8, z9, z10, z11] [] (f2, σ.2) (jD5 σ m T lim o) := by
          intro f2 T2 z3 z4 z5 z6 z7 z8 z9 z10 z11 hf2 hS2 hq2 f213 f211 f212 hO2
          have hend : jD5 σ m T lim o ((f2, σ.2), .inl none) := by rw [hO2]; exact ⟨f2, T2, hf2, hS2, hq2, f213, by show N ≤ lim; omega, Or.inr ⟨-7, rfl, Or.inr ⟨rfl, f212, f211⟩⟩, rfl⟩
          have h9 := hS2 151 (by omega)
          have h91 := h9.1
          refine jm_run ok_M_divided [] 90 (fun kk hk => ?_)
          conv => whnf
          refine jg hM.size ?_
          conv => whnf
          refine ja rfl hM.l4 h9.2.1 ?_
          conv => whnf
          refine b_le (b := 0) rfl rfl (fun _ => ?_) (fun _ => ?_)
          · conv => whnf
            exact hk _ _ _ _ (r_M_divided_397 hend)
          · conv => whnf
            refine b_nz (b := true) f211 (fun _ => ?_) (fun h => by cases h)
            conv => whnf
            exact hk _ _ _ _ (r_M_divided_397 hend)
        -- an element was found, or none
        have found : ∀ k, k = sp_fd bt t.2.2 0 G → ∀ z5 z6 z7 z8 z9 z10 z11 : Option jm_V, J g (d + 5) 114 126 [some (aR 6 m), some (aI (nI 151)), some (aI (nI 152)), some (aI (sp_d t.2.2)), some (aI (nI k)), z5, z6, z7, z8, z9, z10, z11] [] (F, σ.2) (jD5 σ m T lim o) := by
          intro k hkf z5 z6 z7 z8 z9 z10 z11
          rw [← hkf] at hO
          have hkle : k ≤ G.length := by have := sp_fd_le bt t.2.2 0 G; omega
          cases hgk : G[k]? with
          | none =>
            rw [hgk] at hO
            have hkG : k = G.length := by have := List.getElem?_eq_none_iff.mp hgk; omega
            refine jm_run ok_M_divided [] 90 (fun kk hk => ?_)
            conv => whnf
            rw [show (100 : Int32) * nI 151 = nI (100 * 151) from ix0 151]
            refine b_ne rfl F20 (fun h => absurd hkG h) (fun _ => ?_)
            conv => whnf
            refine jg hM.num ?_
            conv => whnf
            refine ja rfl hM.l1 row.1 ?_
            conv => whnf
            refine jg hM.den ?_
            conv => whnf
            refine ja rfl hM.l2 row.2.1 ?_
            conv => whnf
            refine hk _ _ _ _ (k_M_divided_158 rfl (c_mcomes (σ := (F, σ.2)) hM FC gS (by omega : 152 < 372) (by rw [hTr]; exact rw) (by rw [hTr]; exact rv) tw.2.1 ⟨tw.2.2.1, tw.2.2.2.1⟩ tw.2.2.2.2 tv g11) (fun u hu => ?_))
            obtain ⟨f2, l2, hf2, hS2, h3, hu⟩ := hu
            subst hu
            rw [hTr] at h3
            have hfd2 := gf.fm hf2
            have T2w : tU T' 152 l2 151 = t :: w := by rw [tU_ne (by omega)]; exact hTw
            have h42 := (hS2 151 (by omega)).2
            rw [T2w] at h42
            show J g (d + 5) 114 161 _ _ (f2, σ.2) _
            -- the first term goes
            have hst2 : jm_wi (f2, σ.2) (m + 4) 151 (nI w.length) = ((jm_wi (f2, σ.2) (m + 4) 151 (nI w.length)).1, σ.2) := rfl
            have G4 : (jm_wi (f2, σ.2) (m + 4) 151 (nI w.length)).1 (m + 4) 151 = nI w.length := jm_wi_at
            have G4' : ∀ q, q ≠ 151 → (jm_wi (f2, σ.2) (m + 4) 151 (nI w.length)).1 (m + 4) q = f2 (m + 4) q := fun q hq => jm_wi_k hq
            have Gq : ∀ q, q ≠ m + 4 → (jm_wi (f2, σ.2) (m + 4) 151 (nI w.length)).1 q = f2 q := fun q hq => jm_wi_q hq
            generalize (jm_wi (f2, σ.2) (m + 4) 151 (nI w.length)).1 = H at hst2 G4 G4' Gq
            have hMP : MP (shD H m (100 * 151 + 0) (100 * 151 + w.length)) m 151 ((t :: w).eraseIdx 0) := MP_rem G4 (fun i t' _ hti => by
              rw [Gq _ (by omega), Gq _ (by omega), Gq _ (by omega)]
              exact h42.2 i t' hti) (Nat.zero_le _) rfl
            have hsq : ∀ q, ¬ (m + 1 ≤ q ∧ q ≤ m + 3) → shD H m (100 * 151 + 0) (100 * 151 + w.length) q = H q := fun q hq => by
              funext i
              unfold shD
              rw [if_neg (by omega)]
            have hS3 : MS (shD H m (100 * 151 + 0) (100 * 151 + w.length)) m (tU (tU T' 152 l2) 151 w) := MS_set hS2 (by omega) hMP (fun q hq => by rw [hsq _ (by omega)]; exact G4' q hq) (fun r' hr' i hi => by
              unfold shD
              rw [if_neg (by omega), Gq r' (by omega)])
            have hfd3 : FD5 σ m (shD H m (100 * 151 + 0) (100 * 151 + w.length)) := ⟨fun q hq => by rw [hsq q (by omega), Gq q (by omega)]; exact hfd2.1 q hq, fun k a b c e i => by rw [hsq m (by omega), Gq m (by omega)]; exact hfd2.2 k a b c e i⟩
            have m3 : ∀ k, shD H m (100 * 151 + 0) (100 * 151 + w.length) m k = f2 m k := fun k => by rw [hsq m (by omega), Gq m (by omega)]
            have f213 : f2 m 13 = nI (lim - N) := (hf2.2 13 (by decide) (by decide) (by decide)).trans g13
            have f212 : f2 m 12 = 0 := (hf2.2 12 (by decide) (by decide) (by decide)).trans g12
            have q3 : ∀ q, q ≠ 151 → q ≠ 152 → ¬ (100 ≤ q ∧ q < 125) → tU (tU T' 152 l2) 151 w q = T q := fun q a b c => by rw [tU_ne a, tU_ne b]; exact hq q a b c
            have cont : ∀ (z6 : Option jm_V), J g (d + 5) 114 31 [some (aR 6 m), some (aI (nI 151)), some (aI (nI 152)), some (aI (sp_d t.2.2)), some (aI (nI k)), some (aI (nI (100 * 151))), z6, z7, z8, z9, z10, z11] [] (shD H m (100 * 151 + 0) (100 * 151 + w.length), σ.2) (jD5 σ m T lim o) := by
              intro z6
              rcases h3 with ⟨h3, f211⟩ | ⟨h3, f211⟩
              · rw [h3] at hO
                refine ih w qs l2 _ _ o _ _ _ _ _ _ _ _ _ (by omega) hfd3 hS3 q3 ((m3 13).trans f213) ((m3 11).trans f211) ((m3 12).trans f212) (tU_at _ _ _) (by rw [tU_ne (by omega)]; exact tU_at _ _ _) (fun i p hp => ?_) hql ⟨by omega, fun s hs => ww.2 s (List.mem_cons_of_mem _ hs)⟩ (fun s hs => wv s (List.mem_cons_of_mem _ hs)) (sp_come_w rw ⟨tw.1, tw.2.1, tw.2.2.1, tw.2.2.2.1, tw.2.2.2.2⟩ h3) (HVp_come rv tv h3) hO
                have hi := (List.getElem?_eq_some_iff.mp hp).1
                rw [tU_ne (by omega), tU_ne (by omega)]
                exact hTq i p hp
              · rw [h3] at hO
                exact full _ _ _ _ _ _ _ _ _ _ _ hfd3 hS3 q3 ((m3 13).trans f213) ((m3 11).trans f211) ((m3 12).trans f212) hO
            have loop : ∀ c i, i + c = w.length → J g (d + 5) 114 174 [some (aR 6 m), some (aI (nI 151)), some (aI (nI 152)), some (aI (sp_d t.2.2)), some (aI (nI k)), some (aI (nI (100 * 151))), some (aI (nI i)), z7, z8, z9, z10, z11] [] (shD H m (100 * 151 + 0) (100 * 151 + i), σ.2) (jD5 σ m T lim o) := by
              intro c
              induction c with
              | zero =>
                intro i hi
                obtain rfl : i = w.length := by omega
                have s4 : shD H m (100 * 151 + 0) (100 * 151 + w.length) (m + 4) 151 = nI w.length := by rw [hsq _ (by omega)]; exact G4
                refine jm_run ok_M_divided [31] 90 (fun kk hk => ?_)
                conv => whnf
                refine jg hM.size ?_
                conv => whnf
                refine ja rfl hM.l4 s4 ?_
                conv => whnf
                refine b_le (a := w.length) (b := w.length) rfl rfl (fun _ => ?_) (fun h => by omega)
                conv => whnf
                exact hk _ _ _ _ (cont _)
              | succ c ih2 =>
                intro i hi
                have s4 : shD H m (100 * 151 + 0) (100 * 151 + i) (m + 4) 151 = nI w.length := by
                  unfold shD
                  rw [if_neg (by omega)]; exact G4
                have hv1 : ∀ r, r = m + 1 ∨ r = m + 2 ∨ r = m + 3 → shD H m (100 * 151 + 0) (100 * 151 + i) r (100 * 151 + i + 1) = H r (100 * 151 + i + 1) := fun r hr => by
                  unfold shD
                  rw [if_neg (by omega)]
                have hidx : nI (100 * 151) + nI i + 1 = nI (100 * 151 + i + 1) := by rw [nI_add, nI_1]
                have hstep := shD_s (f := H) (r := σ.2) (a := m) (k := 100 * 151 + 0) (i := 100 * 151 + i) (by omega)
                refine jm_run ok_M_divided [174] 90 (fun kk hk => ?_)
                conv => whnf
                refine jg hM.size ?_
                conv => whnf
                refine ja rfl hM.l4 s4 ?_
                conv => whnf
                refine b_le (a := w.length) (b := i) rfl rfl (fun h => by omega) (fun _ => ?_)
                conv => whnf
                refine jg hM.num ?_
                conv => whnf
                refine jg hM.num ?_
                conv => whnf
                refine ja hidx hM.l1 (hv1 _ (Or.inl rfl)) ?_
                conv => whnf
                refine jw (nI_add _ _) hM.l1 ?_
                conv => whnf
                refine jg hM.den ?_
                conv => whnf
                refine jg hM.den ?_
                conv => whnf
                refine ja hidx hM.l2 ((congrFun (jm_wi_q (by omega)) _).trans (hv1 _ (Or.inr (Or.inl rfl)))) ?_
                conv => whnf
                refine jw (nI_add _ _) hM.l2 ?_
                conv => whnf
                refine jg hM.mono ?_
                conv => whnf
                refine jg hM.mono ?_
                conv => whnf
                refine ja hidx hM.l3 ((congrFun (jm_wi_q (by omega)) _).trans ((congrFun (jm_wi_q (by omega)) _).trans (hv1 _ (Or.inr (Or.inr rfl))))) ?_
                conv => whnf
                refine jw (nI_add _ _) hM.l3 ?_
                conv => whnf
                rw [nI_1]
                refine hk _ _ _ _ ?_
                rw [hstep]
                exact ih2 (i + 1) (by omega)
            have h0' := loop w.length 0 (by omega)
            rw [show (100 * 151 + 0 : Nat) = 100 * 151 from rfl] at h0'
            rw [shD_0] at h0'
            refine jm_run ok_M_divided [174] 90 (fun kk hk => ?_)
            conv => whnf
            refine jg hM.size ?_
            conv => whnf
            refine ja rfl hM.l4 h42.1 ?_
            conv => whnf
            rw [show nI (t :: w).length - 1 = nI w.length from nI_pred w.length]
            refine jw rfl hM.l4 ?_
            conv => whnf
            rw [hst2]
            exact hk _ _ _ _ h0'
          | some gp =>
            rw [hgk] at hO
            dsimp only at hO
            have hkG : k < G.length := (List.getElem?_eq_some_iff.mp hgk).1
            obtain ⟨g1, g2, g3, g4⟩ := hG k gp hgk
            have hgT : T' (base + k) = gp := by rw [hq _ (by omega) (by omega) (by omega)]; exact g1
            have hhb := sp_hd_b g2
            have hPg := (gS (base + k) (by omega)).2
            rw [hgT] at hPg
            have rowg : F (m + 1) (100 * (base + k)) = sp_i (sp_hd gp).1 ∧ F (m + 2) (100 * (base + k)) = sp_i (sp_hd gp).2 := by
              cases gp with
              | nil => exact absurd rfl g3
              | cons s r => have := hPg.2 0 s rfl; exact ⟨this.1, this.2.1⟩
            have hit := (sp_fd_hit bt t.2.2 0 G gp).2 (by rw [Nat.sub_zero, ← hkf]; exact hgk)
            have hldok := sp_ld_ok g2
            have hldv := HVp_ld g4
            have hbyok := sp_sb_ok (sp_ld gp) tw.2.2.2.2
            have hbyv := HV_sb (sp_ld gp) tv
            have hC0 : (if (sp_hd gp).1 < 0 then -(sp_hd gp).2 else (sp_hd gp).2) ≠ 0 := by split <;> omega
            -- behind the quotient
            have aft : ∀ (f2 : Nat → Nat → Int32) (z9 z10 z11 : Option jm_V) (z7 z8 : Int32), FL (F, σ.2) m f2 → ((∃ r, sp_qt t gp = some r ∧ f2 m 11 = 0 ∧ f2 m 16 = sp_i r.1 ∧ f2 m 17 = sp_i r.2) ∨ (sp_qt t gp = none ∧ f2 m 11 = 1)) →
                J g (d + 5) 114 343 [some (aR 6 m), some (aI (nI 151)), some (aI (nI 152)), some (aI (sp_d t.2.2)), some (aI (nI k)), some (aI (nI (100 * 151))), some (aI (nI (base + k))), some (aI z7), some (aI z8), z9, z10, z11] [] (f2, σ.2) (jD5 σ m T lim o) := by
              intro f2 z9 z10 z11 z7 z8 hf2 h3
              have hS2 := hf2.ms (σ := (F, σ.2)) gS
              have hfd2 := gf.fm hf2.fm
              have f213 : f2 m 13 = nI (lim - N) := (hf2.2 13 (by decide) (by decide) (by decide)).trans g13
              have f212 : f2 m 12 = 0 := (hf2.2 12 (by decide) (by decide) (by decide)).trans g12
              refine jm_run ok_M_divided [] 90 (fun kk hk => ?_)
              conv => whnf
              refine hk _ _ _ _ (k_M_divided_359 rfl (c_mlead (σ := (f2, σ.2)) hM hS2 (by omega : base + k < 372) (by rw [hgT]; exact g3)) (fun u hu => ?_))
              subst hu
              rw [hgT]
              show J g (d + 5) 114 362 _ [aI (sp_d (sp_ld gp)), aI (sp_d t.2.2)] (f2, σ.2) _
              refine jm_run ok_M_divided [] 90 (fun kk hk => ?_)
              conv => whnf
              rw [sp_sb_d hit.2]
              rcases h3 with ⟨r, hr, f211, f216, f217⟩ | ⟨hn, f211⟩
              · rw [hr] at hO
                dsimp only at hO
                have rb := sp_fr_b (Int.mul_ne_zero (by have := tw.2.2.1; omega) (by omega)) hr
                have r0 : r.1 ≠ 0 := fun q => Int.mul_ne_zero tw.1 hC0 (rb.2.2.2.mp q)
                have hcf : sp_cf (-r.1) r.2 := ⟨by omega, by omega, rb.2.1, rb.2.2.1⟩
                rw [show (f2, σ.2).1 m 16 = sp_i r.1 from f216, show (f2, σ.2).1 m 17 = sp_i r.2 from f217, sp_ineg]
                refine hk _ _ _ _ (k_M_divided_376 rfl (c_madds (σ := (f2, σ.2)) hM (hf2.fm.mc FC) hS2 (by omega : 151 < 372) (by omega : base + k < 372) (by omega) (by rw [hTw]; exact ww) (by rw [hTw]; exact wv) (by rw [hgT]; exact g2) (by rw [hgT]; exact g4) hcf hbyok hbyv f211) (fun u hu => ?_))
                obtain ⟨f3, l3, hf3, hS3, h4', hu⟩ := hu
                subst hu
                rw [hTw, hgT] at h4'
                have hfd3 := hfd2.fm hf3
                have f313 : f3 m 13 = nI (lim - N) := (hf3.2 13 (by decide) (by decide) (by decide)).trans f213
                have f312 : f3 m 12 = 0 := (hf3.2 12 (by decide) (by decide) (by decide)).trans f212
                have q3 : ∀ q, q ≠ 151 → q ≠ 152 → ¬ (100 ≤ q ∧ q < 125) → tU T' 151 l3 q = T q := fun q a b c => by rw [tU_ne a]; exact hq q a b c
                show J g (d + 5) 114 379 _ _ (f3, σ.2) _
                rcases h4' with ⟨h4', f311⟩ | ⟨h4', f311⟩
                · rw [h4'] at hO
                  dsimp only at hO
                  have gq : qs[k]? = some qs[k] := List.getElem?_eq_getElem (by omega)
                  have hqk := hTq k _ gq
                  have hgD : qs.getD k [] = qs[k] := by rw [List.getD_eq_getElem?_getD, gq]; rfl
                  generalize qs[k] = qk at gq hqk hgD
                  have hTk : tU T' 151 l3 (100 + k) = qk := by rw [tU_ne (by omega)]; exact hqk.1
                  refine jm_run ok_M_divided [31] 90 (fun kk hk => ?_)
                  conv => whnf
                  rw [show (100 : Int32) + nI k = nI (100 + k) from nI_add 100 k]
                  refine hk _ _ _ _ (k_M_divided_391 rfl (c_mcomes (σ := (f3, σ.2)) (p := 100 + k) hM (hf3.mc (hf2.fm.mc FC)) hS3 (by omega) (by rw [hTk]; exact hqk.2.1) (by rw [hTk]; exact hqk.2.2) rb.1 ⟨rb.2.1, rb.2.2.1⟩ hbyok hbyv f311) (fun u hu => ?_))
                  obtain ⟨f5, l5, hf5, hS5, h6, hu⟩ := hu
                  subst hu
                  rw [hTk] at h6
                  have hfd5 := hfd3.fm hf5
                  have f513 : f5 m 13 = nI (lim - N) := (hf5.2 13 (by decide) (by decide) (by decide)).trans f313
                  have f512 : f5 m 12 = 0 := (hf5.2 12 (by decide) (by decide) (by decide)).trans f312
                  have q5 : ∀ q, q ≠ 151 → q ≠ 152 → ¬ (100 ≤ q ∧ q < 125) → tU (tU T' 151 l3) (100 + k) l5 q = T q := fun q a b c => by rw [tU_ne (by omega)]; exact q3 q a b c
                  show J g (d + 5) 114 394 _ _ (f5, σ.2) _
                  have hO : o = match sp_come j (qs.getD k []) r.1 r.2 (sp_sb t.2.2 (sp_ld gp)) with
                    | none => (N, .inl (-7))
                    | some q' => sp_dl j G bt N l3 (qs.set k q') rest := hO
                  rw [hgD] at hO
                  rcases h6 with ⟨h6, f511⟩ | ⟨h6, f511⟩
                  · rw [h6] at hO
                    refine jm_run ok_M_divided [31] 90 (fun kk hk => ?_)
                    conv => whnf
                    refine hk _ _ _ _ (ih l3 (qs.set k l5) rest f5 _ o _ _ _ _ _ _ _ _ _ (by omega) hfd5 hS5 q5 f513 f511 f512 (by rw [tU_ne (by omega)]; exact tU_at _ _ _) (by rw [tU_ne (by omega), tU_ne (by omega)]; exact hTr) (fun i p hp => ?_) (by rw [List.length_set]; exact hql) (sp_plus_w hcf ww g2.2 h4') (HVp_plus hbyv wv g4 h4') rw rv hO)
                    have hi := (List.getElem?_eq_some_iff.mp hp).1
                    rw [List.length_set] at hi
                    by_cases hik : k = i
                    · subst hik
                      rw [List.getElem?_set_self (by omega)] at hp
                      cases hp
                      exact ⟨tU_at _ _ _, sp_come_w hqk.2.1 ⟨r0, rb.1, rb.2.1, rb.2.2.1, hbyok⟩ h6, HVp_come hqk.2.2 hbyv h6⟩
                    · rw [List.getElem?_set_ne hik] at hp
                      rw [tU_ne (by omega), tU_ne (by omega)]
                      exact hTq i p hp
                  · rw [h6] at hO
                    refine jm_run ok_M_divided [31] 90 (fun kk hk => ?_)
                    conv => whnf
                    exact hk _ _ _ _ (full f5 _ _ _ _ _ _ _ _ _ _ hfd5 hS5 q5 f513 f511 f512 hO)
                · rw [h4'] at hO
                  dsimp only at hO
                  refine jm_run ok_M_divided [31] 90 (fun kk hk => ?_)
                  conv => whnf
                  refine hk _ _ _ _ (k_M_divided_391 rfl (c_mcomes1 (σ := (f3, σ.2)) (L := []) f311) (fun u hu => ?_))
                  subst hu
                  show J g (d + 5) 114 394 _ _ (f3, σ.2) _
                  refine jm_run ok_M_divided [31] 90 (fun kk hk => ?_)
                  conv => whnf
                  exact hk _ _ _ _ (full f3 _ _ _ _ _ _ _ _ _ _ hfd3 hS3 q3 f313 f311 f312 hO)
              · rw [hn] at hO
                refine hk _ _ _ _ (k_M_divided_376 rfl (c_madds1 (σ := (f2, σ.2)) hM hS2 (by omega : base + k < 372) f211) (fun u hu => ?_))
                subst hu
                show J g (d + 5) 114 379 _ _ (f2, σ.2) _
                refine jm_run ok_M_divided [31] 90 (fun kk hk => ?_)
                conv => whnf
                refine hk _ _ _ _ (k_M_divided_391 rfl (c_mcomes1 (σ := (f2, σ.2)) (L := []) f211) (fun u hu => ?_))
                subst hu
                show J g (d + 5) 114 394 _ _ (f2, σ.2) _
                refine jm_run ok_M_divided [31] 90 (fun kk hk => ?_)
                conv => whnf
                exact hk _ _ _ _ (full f2 T' _ _ _ _ _ _ _ _ _ hfd2 hS2 hq f213 f211 f212 hO)
            have h1b := hhb.2.1
            have tb1 := tw.2.1
            have tb2 := tw.2.2.1
            have tb3 := tw.2.2.2.1
            refine jm_run ok_M_divided [] 90 (fun kk hk => ?_)
            conv => whnf
            rw [show (100 : Int32) * nI 151 = nI (100 * 151) from ix0 151]
            refine b_ne rfl F20 (fun _ => ?_) (fun h => by omega)
            conv => whnf
            rw [show (F, σ.2).1 m 19 = nI base from F19, nI_add]
            refine jg hM.num ?_
            conv => whnf
            refine ja (ix0 _) hM.l1 rowg.1 ?_
            conv => whnf
            refine jg hM.den ?_
            conv => whnf
            refine ja (ix0 _) hM.l2 rowg.2 ?_
            conv => whnf
            refine jg hM.num ?_
            conv => whnf
            refine ja rfl hM.l1 row.1 ?_
            conv => whnf
            refine jg hM.den ?_
            conv => whnf
            refine ja rfl hM.l2 row.2.1 ?_
            conv => whnf
            by_cases hneg : (sp_hd gp).1 < 0
            · have hq1 : sp_qt t gp = sp_fr (t.1 * -(sp_hd gp).2) (t.2.1 * -(sp_hd gp).1) := by unfold sp_qt; rw [if_pos hneg, show ((sp_hd gp).1.natAbs : Int) = -(sp_hd gp).1 by omega]
              rw [sp_i0]
              refine bi_le (a := 0) (b := (sp_hd gp).1) rfl rfl (fun h => by omega) (fun _ => ?_)
              conv => whnf
              rw [sp_i0]
              refine bi_le (a := 0) (b := (sp_hd gp).1) rfl rfl (fun h => by omega) (fun _ => ?_)
              conv => whnf
              rw [sp_ineg, sp_ineg, sp_il (by omega), sp_il (by omega), sp_il (by omega), sp_il (by omega)]
              refine hk _ _ _ _ (k_M_divided_340 rfl (c_mmult (σ := (F, σ.2)) tw.2.1 ⟨tw.2.2.1, tw.2.2.2.1⟩ (by omega) ⟨by omega, by omega⟩ g11) (fun u hu => ?_))
              obtain ⟨f2, hf2, h3, hu⟩ := hu
              subst hu
              rw [← hq1] at h3
              exact aft f2 _ _ _ _ _ hf2 h3
            · have hq1 : sp_qt t gp = sp_fr (t.1 * (sp_hd gp).2) (t.2.1 * (sp_hd gp).1) := by unfold sp_qt; rw [if_neg hneg, show ((sp_hd gp).1.natAbs : Int) = (sp_hd gp).1 by omega]
              rw [sp_i0]
              refine bi_le (a := 0) (b := (sp_hd gp).1) rfl rfl (fun _ => ?_) (fun h => by omega)
              conv => whnf
              rw [sp_i0]
              refine bi_le (a := 0) (b := (sp_hd gp).1) rfl rfl (fun _ => ?_) (fun h => by omega)
              conv => whnf
              rw [sp_il (by omega), sp_il (by omega), sp_il (by omega), sp_il (by omega)]
              refine hk _ _ _ _ (k_M_divided_340 rfl (c_mmult (σ := (F, σ.2)) tw.2.1 ⟨tw.2.2.1, tw.2.2.2.1⟩ (by omega) ⟨by omega, by omega⟩ g11) (fun u hu => ?_))
              obtain ⟨f2, hf2, h3, hu⟩ := hu
              subst hu
              rw [← hq1] at h3
              exact aft f2 _ _ _ _ _ hf2 h3
        have seek : ∀ c k, k + c = G.length → sp_fd bt t.2.2 0 G = sp_fd bt t.2.2 k (G.drop k) → ∀ z5 z6 z7 z8 z9 z10 z11 : Option jm_V, J g (d + 5) 114 83 [some (aR 6 m), some (aI (nI 151)), some (aI (nI 152)), some (aI (sp_d t.2.2)), some (aI (nI k)), z5, z6, z7, z8, z9, z10, z11] [] (F, σ.2) (jD5 σ m T lim o) := by
          intro c
          induction c with
          | zero =>
            intro k hkc hfd z5 z6 z7 z8 z9 z10 z11
            rw [List.drop_of_length_le (by omega)] at hfd
            refine jm_run ok_M_divided [83, 126] 90 (fun kk hk => ?_)
            conv => whnf
            refine b_le F20 rfl (fun _ => ?_) (fun h => by omega)
            conv => whnf
            exact hk _ _ _ _ (found k hfd.symm _ _ _ _ _ _ _)
          | succ c ih2 =>
            intro k hkc hfd z5 z6 z7 z8 z9 z10 z11
            have gk : G[k]? = some G[k] := List.getElem?_eq_getElem (by omega)
            obtain ⟨g1, g2, g3, g4⟩ := hG k _ gk
            rw [drop_cons gk, sp_fd] at hfd
            generalize G[k] = gp at gk g1 g2 g3 g4 hfd
            have hgT : T' (base + k) = gp := by rw [hq _ (by omega) (by omega) (by omega)]; exact g1
            refine jm_run ok_M_divided [83, 126] 90 (fun kk hk => ?_)
            conv => whnf
            refine b_le F20 rfl (fun h => by omega) (fun _ => ?_)
            conv => whnf
            rw [show (F, σ.2).1 m 21 = btx from F21]
            refine ⟨fun h1 => ?_, fun h1 => ?_⟩
            · have hkb := (hbt k (by omega)).mp h1
              rw [if_neg (fun q => q.1 hkb)] at hfd
              conv => whnf
              rw [nI_1]
              exact hk _ _ _ _ (ih2 (k + 1) (by omega) hfd _ _ _ _ _ _ _)
            · have hkb : k ≠ bt := fun q => h1 ((hbt k (by omega)).mpr q)
              conv => whnf
              rw [show (F, σ.2).1 m 19 = nI base from F19, nI_add]
              refine hk _ _ _ _ (k_M_divided_110 rfl (c_mlead (σ := (F, σ.2)) hM gS (by omega : base + k < 372) (by rw [hgT]; exact g3)) (fun u hu => ?_))
              subst hu
              rw [hgT]
              show J g (d + 5) 114 113 _ _ (F, σ.2) _
              refine jm_run ok_M_divided [83, 126] 90 (fun kk hk => ?_)
              conv => whnf
              refine hk _ _ _ _ (k_M_divided_114 rfl (c_mdivides (σ := (F, σ.2)) (sp_ld_ok g2) tw.2.2.2.2 (HVp_ld g4) FC.1 FC.2.2.1) (fun u hu => ?_))
              subst hu
              show J g (d + 5) 114 117 _ _ (F, σ.2) _
              cases hdv : sp_dv (sp_ld gp) t.2.2 with
              | true =>
                rw [if_pos ⟨hkb, hdv⟩] at hfd
                refine jm_run ok_M_divided [83, 126] 90 (fun kk hk => ?_)
                conv => whnf
                refine b_nz (b := true) rfl (fun _ => ?_) (fun h => by cases h)
                conv => whnf
                exact hk _ _ _ _ (found k hfd.symm _ _ _ _ _ _ _)
              | false =>
                rw [if_neg (fun q => by rw [hdv] at q; cases q.2)] at hfd
                refine jm_run ok_M_divided [83, 126] 90 (fun kk hk => ?_)
                conv => whnf
                refine b_nz (b := false) rfl (fun h => by cases h) (fun _ => ?_)
                conv => whnf
                rw [nI_1]
                exact hk _ _ _ _ (ih2 (k + 1) (by omega) hfd _ _ _ _ _ _ _)
        refine jm_run ok_M_divided [83] 90 (fun kk hk => ?_)
        conv => whnf
        exact hk _ _ _ _ (seek G.length 0 (by omega) rfl _ _ _ _ _ _ _)
  have clear : ∀ nn k, k + nn = 25 → ∀ f : Nat → Nat → Int32, (∀ q, q ≠ m + 4 → f q = σ.1 q) → MS f m (clr (tU T 152 []) k) → J g (d + 5) 114 9 [some (aR 6 m), some (aI (nI 151)), some (aI (nI 152)), some (aI (nI k)), none, none, none, none, none, none, none, none] [] (f, σ.2) (jD5 σ m T lim (sp_dl j G bt (lim - c) w (List.replicate G.length []) [])) := by
    intro nn
    induction nn with
    | zero =>
      intro k hkn f hf hS
      obtain rfl : k = 25 := by omega
      have fm : f m = σ.1 m := hf m (by omega)
      refine jm_run ok_M_divided [31] 90 (fun kk hk => ?_)
      conv => whnf
      refine b_le (a := 25) (b := 25) rfl rfl (fun _ => ?_) (fun h => by omega)
      conv => whnf
      refine hk _ _ _ _ (main (lim - c) w (List.replicate G.length []) [] f _ _ _ _ _ _ _ _ _ _ _ (by omega) ⟨fun q hq => hf q (by omega), fun k _ _ _ _ _ => congrFun fm k⟩ hS (fun q a b e => ?_) ?_ ((congrFun fm 11).trans h11) ((congrFun fm 12).trans h12) ?_ ?_ (fun i p hp => ?_) (List.length_replicate ..) hww hwv sp_pw_nil (HVp_nil n) rfl)
      · unfold clr
        rw [if_neg e, tU_ne b]
      · rw [show lim - (lim - c) = c by omega]; exact (congrFun fm 13).trans h13
      · unfold clr
        rw [if_neg (by omega), tU_ne (by omega)]; exact hW
      · unfold clr
        rw [if_neg (by omega)]; exact tU_at _ _ _
      · have hi := (List.getElem?_eq_some_iff.mp hp).1
        rw [List.length_replicate] at hi
        rw [List.getElem?_replicate, if_pos hi] at hp
        cases hp
        refine ⟨?_, sp_pw_nil, HVp_nil n⟩
        unfold clr
        rw [if_pos (by omega)]
    | succ nn ih =>
      intro k hkn f hf hS
      have hst : jm_wi (f, σ.2) (m + 4) (100 + k) 0 = ((jm_wi (f, σ.2) (m + 4) (100 + k) 0).1, σ.2) := rfl
      have hS2 := MS_nil (ρ := σ.2) (p := 100 + k) hS
      rw [clr_s] at hS2
      refine jm_run ok_M_divided [9, 31] 90 (fun kk hk => ?_)
      conv => whnf
      refine b_le (a := 25) (b := k) rfl rfl (fun h => by omega) (fun _ => ?_)
      conv => whnf
      refine jg hM.size ?_
      conv => whnf
      refine jw (nI_add 100 k) hM.l4 ?_
      conv => whnf
      rw [hst, nI_1]
      exact hk _ _ _ _ (ih (k + 1) (by omega) _ (fun q hq => (jm_wi_q hq).trans (hf q hq)) hS2)
  have hst : jm_wi σ (m + 4) 152 0 = ((jm_wi σ (m + 4) 152 0).1, σ.2) := rfl
  have hS0 := MS_nil (ρ := σ.2) (p := 152) hT
  rw [← clr_0 (tU T 152 [])] at hS0
  refine jm_run ok_M_divided [9] 90 (fun kk hk => ?_)
  conv => whnf
  refine jg hM.size ?_
  conv => whnf
  refine jw rfl hM.l4 ?_
  conv => whnf
  rw [hst]
  exact hk _ _ _ _ (clear 25 0 (by omega) _ (fun q hq => jm_wi_q hq) hS0)
end
