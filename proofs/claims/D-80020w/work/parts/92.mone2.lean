/-! THE MODEL: onePair, whole; move -/
/-- one turn: the steps left, whether the pair was passed over, what comes of it -/
def sp_tn (j N : Nat) (st : sp_ES) (b : Nat × Nat) : Nat × (Nat × (Int32 ⊕ sp_ES)) := if sp_pass (sp_G st.1) (sp_clr st.2 b.1 b.2) b.1 b.2 = true then (N, (1, .inr (st.1, sp_clr st.2 b.1 b.2))) else ((sp_pair j N (st.1, sp_clr st.2 b.1 b.2) b.1 b.2).1, (0, (sp_pair j N (st.1, sp_clr st.2 b.1 b.2) b.1 b.2).2))
def jT5 (σ : jm_S) (m : Nat) (T : Nat → sp_P) (base sh lim c pr ps : Nat) (r : Nat × (Nat × (Int32 ⊕ sp_ES))) : jm_O → Prop := fun u => ∃ f T', FK σ m f T T' base sh ∧ MS f m T' ∧ f m 13 = nI (lim - r.1) ∧ r.1 ≤ lim ∧ f m 21 = -1 ∧ f m 24 = nI (pr + 1) ∧ f m 25 = nI (ps + r.2.1) ∧ ((∃ st', r.2.2 = .inr st' ∧ MB f m T' base sh st' ∧ f m 11 = 0 ∧ f m 12 = 0) ∨ (∃ x, r.2.2 = .inl x ∧ flg f m x ∧ f m 20 = nI c)) ∧ u = ((f, σ.2), .inl (some (aI 1)))
section
variable {g : jm_G} {d : Nat} {σ : jm_S} {m : Nat}
set_option maxRecDepth 8000 in
theorem c_monepair {T : Nat → sp_P} {base n j gens sh lim N pr ps : Nat} {ws : Bool} {st : sp_ES} (hM : ML g σ m) (hMK : MK σ.1 m base n j gens ws sh lim) (hS : MS σ.1 m T) (hB : MB σ.1 m T base sh st) (hSE : SE j n sh st.1) (h11 : σ.1 m 11 = 0) (h12 : σ.1 m 12 = 0) (h13 : σ.1 m 13 = nI (lim - N)) (hN : N ≤ lim) (h24 : σ.1 m 24 = nI pr) (h25 : σ.1 m 25 = nI ps) :
    J g (d + 6) 108 0 [some (aR 6 m), none, none, none, none, none, none, none] [] σ (fun u => (sp_next j (sp_G st.1) st.2 = none ∧ u = (σ, .inl (some (aI 0)))) ∨ ∃ b, sp_next j (sp_G st.1) st.2 = some b ∧ jT5 σ m T base sh lim st.1.length pr ps (sp_tn j N st b) u) := by
  obtain ⟨mC, m19, m21, m7, m22, m14, hbase, hg8, hsh, hlim⟩ := id hMK
  have hl24 := hSE.2.1
  have hGl := sp_G_len st.1
  have hmg := hB.mg hSE
  refine c_mseek (d := d + 3) hM mC hS hbase m19 (by rw [hGl]; exact hB.2.1) (by omega) hmg (by rw [hGl]; exact hB.2.2) (fun x z4 z5 z6 z7 hx => ?_)
  cases hb : sp_next j (sp_G st.1) st.2 with
  | none =>
    refine jm_run ok_M_onePair [] 90 (fun kk hk => ?_)
    conv => whnf
    refine ⟨fun q => absurd q (show ¬ (0 : Int32) ≤ -1 by decide), fun _ => ?_⟩
    conv => whnf
    exact hk _ _ _ _ (r_M_onePair_112 (Or.inl rfl) (Or.inl ⟨rfl, rfl⟩))
  | some b =>
    rw [hb] at hx
    obtain ⟨hx, hb12, hb2⟩ := hx
    subst hx
    have hb2' : b.2 < st.1.length := by omega
    have hst : jm_wi (jm_wi σ (m + 7) (25 * b.1 + b.2) 0) m 24 (nI (pr + 1)) = ((jm_wi (jm_wi σ (m + 7) (25 * b.1 + b.2) 0) m 24 (nI (pr + 1))).1, σ.2) := rfl
    have v24 : (jm_wi σ (m + 7) (25 * b.1 + b.2) 0).1 m 24 = nI pr := by rw [jm_wi_q (by omega)]; exact h24
    have Fk : ∀ k, k ≠ 24 → (jm_wi (jm_wi σ (m + 7) (25 * b.1 + b.2) 0) m 24 (nI (pr + 1))).1 m k = σ.1 m k := fun k hk => (jm_wi_k hk).trans (congrFun (jm_wi_q (by omega)) k)
    have F24 : (jm_wi (jm_wi σ (m + 7) (25 * b.1 + b.2) 0) m 24 (nI (pr + 1))).1 m 24 = nI (pr + 1) := jm_wi_at
    have Fq : ∀ q, q ≠ m → q ≠ m + 7 → (jm_wi (jm_wi σ (m + 7) (25 * b.1 + b.2) 0) m 24 (nI (pr + 1))).1 q = σ.1 q := fun q a b => (jm_wi_q a).trans (jm_wi_q b)
    have F7 : ∀ i, (jm_wi (jm_wi σ (m + 7) (25 * b.1 + b.2) 0) m 24 (nI (pr + 1))).1 (m + 7) i = if i = 25 * b.1 + b.2 then 0 else σ.1 (m + 7) i := fun i => by
      rw [jm_wi_q (by omega), jm_wi_1]
      by_cases q : i = 25 * b.1 + b.2
      · rw [if_pos ⟨rfl, q⟩, if_pos q]
      · rw [if_neg (fun h => q h.2), if_neg q]
    refine jm_run ok_M_onePair [] 90 (fun kk hk => ?_)
    conv => whnf
    refine b_le (a := 0) (b := b.1) rfl rfl (fun _ => ?_) (fun h => by omega)
    conv => whnf
    refine jg hM.waits ?_
    conv => whnf
    refine ⟨Or.inl rfl, ?_⟩
    refine jw (i25 b.1 b.2) hM.l7 ?_
    conv => whnf
    rw [v24, nI_1, hst]
    generalize (jm_wi (jm_wi σ (m + 7) (25 * b.1 + b.2) 0) m 24 (nI (pr + 1))).1 = F at Fk F24 Fq F7
    have hMKF : MK F m base n j gens ws sh lim := MK_fr hMK (Fk 1 (by decide)) (Fk 2 (by decide)) (Fk 19 (by decide)) (Fk 21 (by decide)) (Fk 7 (by decide)) (Fk 22 (by decide)) (Fk 14 (by decide))
    have hSF : MS F m T := MS_fr hS (fun q a b => Fq q (by omega) (by omega))
    have hWF : EW5 F m st.1.length (sp_clr st.2 b.1 b.2) := fun i k a c => by
      rw [F7]
      unfold sp_clr
      by_cases q : i = b.1 ∧ k = b.2
      · rw [if_pos (by omega), if_pos q]; rfl
      · rw [if_neg (fun e => q (by omega)), if_neg q]
        exact hB.2.2 i k a c
    have hBF : MB F m T base sh (st.1, sp_clr st.2 b.1 b.2) := ⟨hB.1, (Fk 20 (by decide)).trans hB.2.1, hWF⟩
    have hKF : FK σ m F T T base sh := ⟨fun q a b c => Fq q (by omega) b, fun k a => Fk k (fun e => a (by unfold kf; omega)), fun q a => rfl⟩
    refine hk _ _ _ _ (k_M_onePair_139 rfl (c_mpass (σ := (F, σ.2)) (d := d + 3) hM hMKF.1 hSF hbase hMKF.2.1 (by rw [hGl]; exact hBF.2.1) (by omega) hmg (by rw [hGl]; exact hWF) (by omega : b.1 < (sp_G st.1).length) hb2) (fun u hu => ?_))
    subst hu
    show J g (d + 6) 108 142 _ _ (F, σ.2) _
    cases hp : sp_pass (sp_G st.1) (sp_clr st.2 b.1 b.2) b.1 b.2 with
    | true =>
      have htn : sp_tn j N st b = (N, (1, .inr (st.1, sp_clr st.2 b.1 b.2))) := by unfold sp_tn; rw [if_pos hp]
      have hst2 : jm_wi (F, σ.2) m 25 (nI (ps + 1)) = ((jm_wi (F, σ.2) m 25 (nI (ps + 1))).1, σ.2) := rfl
      refine jm_run ok_M_onePair [] 90 (fun kk hk => ?_)
      conv => whnf
      refine b_z (b := true) rfl (fun h => by cases h) (fun _ => ?_)
      conv => whnf
      rw [show (F, σ.2).1 m 25 = nI ps from (Fk 25 (by decide)).trans h25, nI_1, hst2]
      refine hk _ _ _ _ (r_M_onePair_156 (Or.inr rfl) (Or.inr ⟨b, rfl, ?_⟩))
      rw [htn]
      refine ⟨(jm_wi (F, σ.2) m 25 (nI (ps + 1))).1, T, hKF.trans (ρ := σ.2) ⟨fun q a b c => jm_wi_q (by omega), fun k a => jm_wi_k (fun e => a (by unfold kf; omega)), fun q a => rfl⟩, MS_fr hSF (fun q a b => jm_wi_q (by omega)), (jm_wi_k (by decide)).trans ((Fk 13 (by decide)).trans h13), hN, (jm_wi_k (by decide)).trans ((Fk 21 (by decide)).trans m21), (jm_wi_k (by decide)).trans F24, jm_wi_at, Or.inl ⟨_, rfl, ⟨hBF.1, (jm_wi_k (by decide)).trans hBF.2.1, fun i k a c => ?_⟩, (jm_wi_k (by decide)).trans ((Fk 11 (by decide)).trans h11), (jm_wi_k (by decide)).trans ((Fk 12 (by decide)).trans h12)⟩, rfl⟩
      rw [jm_wi_q (by omega)]
      exact hWF i k a c
    | false =>
      have htn : sp_tn j N st b = ((sp_pair j N (st.1, sp_clr st.2 b.1 b.2) b.1 b.2).1, (0, (sp_pair j N (st.1, sp_clr st.2 b.1 b.2) b.1 b.2).2)) := by unfold sp_tn; rw [if_neg (by rw [hp]; decide)]
      have hC := c_mpairC (g := g) (d := d) (σ := (F, σ.2)) (T := T) (T1 := T) (f := F) (z4 := z4) (z5 := z5) (z6 := z6) (z7 := z7) (st := (st.1, sp_clr st.2 b.1 b.2)) hM hMKF hSE ⟨FK.refl (F, σ.2) m T base sh, hSF, hBF, (Fk 21 (by decide)).trans m21, rfl, rfl, (Fk 12 (by decide)).trans h12⟩ ((Fk 11 (by decide)).trans h11) ((Fk 13 (by decide)).trans h13) hN (by show b.1 < st.1.length; omega) hb2'
      refine jm_run ok_M_onePair [157] 90 (fun kk hk => ?_)
      conv => whnf
      refine b_z (b := false) rfl (fun _ => ?_) (fun h => by cases h)
      conv => whnf
      refine hk _ _ _ _ (J_mono hC (fun u hu => Or.inr ⟨b, rfl, ?_⟩))
      rw [htn]
      obtain ⟨f, T', a1, a2, a3, a4, a5, a6, a7, a8, hu⟩ := hu
      exact ⟨f, T', hKF.trans (ρ := σ.2) a1, a2, a3, a4, a5, a6.trans F24, a7.trans ((Fk 25 (by decide)).trans h25), a8, hu⟩
/-- an element is moved -/
theorem c_mmove {T : Nat → sp_P} {base gens sh a b : Nat} {ws : Bool} {E : sp_E} (hM : ML g σ m) (hS : MS σ.1 m T) (h19 : σ.1 m 19 = nI base) (hbase : base = 50 ∨ base = 75) (h7 : σ.1 m 7 = nI gens) (hg8 : gens ≤ 8) (h22 : σ.1 m 22 = sp_bi ws) (hsh : sh = cond ws gens 0) (ha : a ≤ 24) (hb : b ≤ 24) (hE : EA5 T base sh a E) :
    J g (d + 1) 117 0 [some (aR 6 m), some (aI (nI a)), some (aI (nI b)), none] [] σ (fun u => ∃ f T', (∀ q, ¬ (m + 1 ≤ q ∧ q ≤ m + 4) → f q = σ.1 q) ∧ MS f m T' ∧ EA5 T' base sh b E ∧ (∀ q, q ≠ base + b → ¬ (170 + 8 * b ≤ q ∧ q < 170 + 8 * b + sh) → T' q = T q) ∧ u = ((f, σ.2), .inl none)) := by
  have hsh8 : sh ≤ 8 := by
    cases ws with
    | false => have : sh = 0 := hsh; omega
    | true => have : sh = gens := hsh; omega
  by_cases hab : a = b
  · subst hab
    refine jm_run ok_M_move [] 90 (fun kk hk => ?_)
    conv => whnf
    refine b_ne (a := a) (b := a) rfl rfl (fun q => absurd rfl q) (fun _ => ?_)
    conv => whnf
    exact hk _ _ _ _ (r_M_move_5 ⟨σ.1, T, fun _ _ => rfl, hS, hE, fun _ _ _ => rfl, rfl⟩)
  · have loop : ∀ (c k : Nat), k + c = sh → ∀ (f2 : Nat → Nat → Int32) (T2 : Nat → sp_P), (∀ q, ¬ (m + 1 ≤ q ∧ q ≤ m + 4) → f2 q = σ.1 q) → MS f2 m T2 → T2 (base + b) = E.1 → (∀ k', k' < k → ∀ q, E.2[k']? = some q → T2 (170 + 8 * b + k') = q) → (∀ q, q ≠ base + b → ¬ (170 + 8 * b ≤ q ∧ q < 170 + 8 * b + sh) → T2 q = T q) →
        J g (d + 1) 117 24 [some (aR 6 m), some (aI (nI a)), some (aI (nI b)), some (aI (nI k))] [] (f2, σ.2) (fun u => ∃ f T', (∀ q, ¬ (m + 1 ≤ q ∧ q ≤ m + 4) → f q = σ.1 q) ∧ MS f m T' ∧ EA5 T' base sh b E ∧ (∀ q, q ≠ base + b → ¬ (170 + 8 * b ≤ q ∧ q < 170 + 8 * b + sh) → T' q = T q) ∧ u = ((f, σ.2), .inl none)) := by
      intro c
      induction c with
      | zero =>
        intro k hkc f2 T2 hf2 hS2 hT2 hsq hq2
        have f2m : f2 m = σ.1 m := hf2 m (by omega)
        have hend : ∃ f T', (∀ q, ¬ (m + 1 ≤ q ∧ q ≤ m + 4) → f q = σ.1 q) ∧ MS f m T' ∧ EA5 T' base sh b E ∧ (∀ q, q ≠ base + b → ¬ (170 + 8 * b ≤ q ∧ q < 170 + 8 * b + sh) → T' q = T q) ∧ (((f2, σ.2), .inl none) : jm_O) = ((f, σ.2), .inl none) := ⟨f2, T2, hf2, hS2, ⟨hT2, hE.2.1, fun k' q hk' => hsq k' (by have h9 := (List.getElem?_eq_some_iff.mp hk').1; rw [hE.2.1] at h9; omega) q hk'⟩, hq2, rfl⟩
        refine jm_run ok_M_move [] 90 (fun kk hk => ?_)
        conv => whnf
        refine b_le ((congrFun f2m 7).trans h7) rfl (fun _ => ?_) (fun hlt => ?_)
        · conv => whnf
          exact hk _ _ _ _ (r_M_move_61 hend)
        · have hwf : ws = false := by
            cases ws with
            | false => rfl
            | true => have : sh = gens := hsh; omega
          rw [hwf] at h22
          conv => whnf
          refine b_z (b := false) ((congrFun f2m 22).trans h22) (fun _ => ?_) (fun h => by cases h)
          conv => whnf
          exact hk _ _ _ _ (r_M_move_61 hend)
      | succ c ih =>
        intro k hkc f2 T2 hf2 hS2 hT2 hsq hq2
        have f2m : f2 m = σ.1 m := hf2 m (by omega)
        have hwt : ws = true := by
          cases ws with
          | true => rfl
          | false => have : sh = 0 := hsh; omega
        have hgs : sh = gens := by rw [hsh, hwt]; rfl
        rw [hwt] at h22
        have hk2 : k < E.2.length := by rw [hE.2.1]; omega
        have gk : E.2[k]? = some E.2[k] := List.getElem?_eq_getElem hk2
        have hTa : T2 (170 + 8 * a + k) = E.2[k] := by rw [hq2 _ (by omega) (by omega)]; exact hE.2.2 k _ gk
        generalize E.2[k] = sk at gk hTa
        refine jm_run ok_M_move [24] 90 (fun kk hk => ?_)
        conv => whnf
        refine b_le ((congrFun f2m 7).trans h7) rfl (fun h => by omega) (fun _ => ?_)
        conv => whnf
        refine b_z (b := true) ((congrFun f2m 22).trans h22) (fun h => by cases h) (fun _ => ?_)
        conv => whnf
        refine hk _ _ _ _ (k_M_move_43 rfl c_mcof (fun u hu => ?_))
        subst hu
        show J g (d + 1) 117 46 _ _ (f2, σ.2) _
        refine jm_run ok_M_move [24] 90 (fun kk hk => ?_)
        conv => whnf
        refine hk _ _ _ _ (k_M_move_49 rfl c_mcof (fun u hu => ?_))
        subst hu
        refine k_M_move_52 rfl (c_mcopy (σ := (f2, σ.2)) (a := 170 + 8 * a + k) (b := 170 + 8 * b + k) hM hS2 (by omega) (by omega) (by omega)) (fun u hu => ?_)
        obtain ⟨f3, hf3, hS3, hu⟩ := hu
        subst hu
        rw [hTa] at hS3
        show J g (d + 1) 117 55 _ _ (f3, σ.2) _
        refine jm_run ok_M_move [24] 90 (fun kk hk => ?_)
        conv => whnf
        rw [nI_1]
        refine hk _ _ _ _ (ih (k + 1) (by omega) f3 _ (fun q hq => (hf3 q hq).trans (hf2 q hq)) hS3 ?_ (fun k' hk' q hq => ?_) (fun q a b => ?_))
        · rw [tU_ne (by omega)]; exact hT2
        · by_cases hkk : k' = k
          · subst hkk
            rw [gk] at hq
            cases hq
            exact tU_at _ _ _
          · rw [tU_ne (by omega)]
            exact hsq k' (by omega) q hq
        · rw [tU_ne (by omega)]; exact hq2 q a b
    refine jm_run ok_M_move [] 90 (fun kk hk => ?_)
    conv => whnf
    refine b_ne (a := a) (b := b) rfl rfl (fun _ => ?_) (fun q => absurd q hab)
    conv => whnf
    rw [h19, nI_add, nI_add]
    refine hk _ _ _ _ (k_M_move_19 rfl (c_mcopy (a := base + a) (b := base + b) hM hS (by omega) (by omega) (by omega)) (fun u hu => ?_))
    obtain ⟨f3, hf3, hS3, hu⟩ := hu
    subst hu
    rw [hE.1] at hS3
    show J g (d + 1) 117 22 _ _ (f3, σ.2) _
    refine jm_run ok_M_move [24] 90 (fun kk hk => ?_)
    conv => whnf
    exact hk _ _ _ _ (loop sh 0 (by omega) f3 _ hf3 hS3 (tU_at _ _ _) (fun k' h => absurd h (Nat.not_lt_zero _)) (fun q a _ => tU_ne a))
end
