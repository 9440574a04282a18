/-! THE MODEL: make -/
def FQ (σ : jm_S) (m : Nat) (f : Nat → Nat → Int32) (T T' : Nat → sp_P) (base sh : Nat) : Prop := (∀ q, ¬ (m ≤ q ∧ q ≤ m + 4) → q ≠ m + 7 → q ≠ m + 8 → f q = σ.1 q) ∧ (∀ k, ¬ kf k → k ≠ 19 → k ≠ 22 → f m k = σ.1 m k) ∧ ∀ q, ¬ sl base sh q → T' q = T q
theorem FQ.fk {σ : jm_S} {m : Nat} {f f' : Nat → Nat → Int32} {T T' T'' : Nat → sp_P} {base sh : Nat} {ρ : (Nat → Nat → Nat) × (Nat × Nat)} (h : FQ σ m f T T' base sh) (h' : FK (f, ρ) m f' T' T'' base sh) : FQ σ m f' T T'' base sh := ⟨fun q a b c => (h'.1 q a b c).trans (h.1 q a b c), fun k a b c => (h'.2.1 k a).trans (h.2.1 k a b c), fun q a => (h'.2.2 q a).trans (h.2.2 q a)⟩
/-- how make ends -/
def jMk (σ : jm_S) (m : Nat) (T : Nat → sp_P) (base sh lim : Nat) (r : Nat × (Nat × (Nat × (Nat × (Int32 ⊕ List sp_E))))) : jm_O → Prop := fun u => ∃ f T', FQ σ m f T T' base sh ∧ MS f m T' ∧ f m 13 = nI (lim - r.1) ∧ f m 24 = nI r.2.1 ∧ f m 25 = nI r.2.2.1 ∧ f m 26 = nI r.2.2.2.1 ∧ ((∃ els, r.2.2.2.2 = .inr els ∧ PL5 T' base sh els ∧ f m 20 = nI els.length ∧ f m 11 = 0 ∧ f m 12 = 0) ∨ (∃ x, r.2.2.2.2 = .inl x ∧ flg f m x)) ∧ u = ((f, σ.2), .inl none)
/-- one number changes -/
theorem FQ.wi {σ : jm_S} {m k : Nat} {f : Nat → Nat → Int32} {T T' : Nat → sp_P} {base sh : Nat} {ρ : (Nat → Nat → Nat) × (Nat × Nat)} {x : Int32} (h : FQ σ m f T T' base sh) (hk : kf k) : FQ σ m (jm_wi (f, ρ) m k x).1 T T' base sh := ⟨fun q a b c => (jm_wi_q (by omega)).trans (h.1 q a b c), fun k' a b c => (jm_wi_k (fun e => a (by rw [e]; exact hk))).trans (h.2.1 k' a b c), h.2.2⟩
section
variable {g : jm_G} {d : Nat} {σ : jm_S} {m : Nat}
/-- where it has failed -/
theorem c_makeF {T T1 : Nat → sp_P} {base sh lim N pr ps c many : Nat} {x x3 : Int32} {f : Nat → Nat → Int32} {z4 z5 : Option jm_V} (hQ : FQ σ m f T T1 base sh) (hS : MS f m T1) (h13 : f m 13 = nI (lim - N)) (h24 : f m 24 = nI pr) (h25 : f m 25 = nI ps) (h20 : f m 20 = nI c) (hc : c ≤ 24) (hfl : flg f m x) :
    J g d 103 237 [some (aR 6 m), some (aI (nI base)), some (aI (nI many)), some (aI x3), z4, z5] [] (f, σ.2) (jMk σ m T base sh lim (N, (pr, (ps, (c, .inl x))))) := by
  have hst : ∀ y, jm_wi (f, σ.2) m 26 y = ((jm_wi (f, σ.2) m 26 y).1, σ.2) := fun _ => rfl
  have hend : jMk σ m T base sh lim (N, (pr, (ps, (c, .inl x)))) (((jm_wi (f, σ.2) m 26 (nI c)).1, σ.2), .inl none) := ⟨_, T1, hQ.wi (by unfold kf; omega), MS_fr hS (fun q a b => jm_wi_q (by omega)), (jm_wi_k (by decide)).trans h13, (jm_wi_k (by decide)).trans h24, (jm_wi_k (by decide)).trans h25, jm_wi_at, Or.inr ⟨x, rfl, by
    unfold flg at hfl ⊢
    rw [jm_wi_k (show 12 ≠ 26 by decide), jm_wi_k (show 11 ≠ 26 by decide)]
    exact hfl⟩, rfl⟩
  have g20 : (jm_wi (f, σ.2) m 26 (nI c)).1 m 20 = nI c := (jm_wi_k (by decide)).trans h20
  have gfl : flg (jm_wi (f, σ.2) m 26 (nI c)).1 m x := by
    unfold flg at hfl ⊢
    rw [jm_wi_k (show 12 ≠ 26 by decide), jm_wi_k (show 11 ≠ 26 by decide)]
    exact hfl
  refine jm_run ok_M_make [] 90 (fun kk hk => ?_)
  conv => whnf
  rw [show (f, σ.2).1 m 20 = nI c from h20, hst]
  generalize (jm_wi (f, σ.2) m 26 (nI c)).1 = F at hend g20 gfl
  rcases gfl with ⟨-, g12, g11⟩ | ⟨-, g12, g11⟩
  · refine b_nz (b := false) g11 (fun h => by cases h) (fun _ => ?_)
    conv => whnf
    refine b_nz (b := true) g12 (fun _ => ?_) (fun h => by cases h)
    conv => whnf
    refine b_le (b := 0) g20 rfl (fun _ => ?_) (fun _ => ?_)
    · conv => whnf
      exact hk _ _ _ _ (r_M_make_301 hend)
    · conv => whnf
      refine b_nz (b := false) g11 (fun h => by cases h) (fun _ => ?_)
      conv => whnf
      refine b_nz (b := true) g12 (fun _ => ?_) (fun h => by cases h)
      conv => whnf
      exact hk _ _ _ _ (r_M_make_301 hend)
  · refine b_nz (b := true) g11 (fun _ => ?_) (fun h => by cases h)
    conv => whnf
    refine b_le (b := 0) g20 rfl (fun _ => ?_) (fun _ => ?_)
    · conv => whnf
      exact hk _ _ _ _ (r_M_make_301 hend)
    · conv => whnf
      refine b_nz (b := true) g11 (fun _ => ?_) (fun h => by cases h)
      conv => whnf
      exact hk _ _ _ _ (r_M_make_301 hend)
/-- the elements are reduced -/
theorem c_makeR {T : Nat → sp_P} {base n j gens sh lim pr ps bf many : Nat} {ws : Bool} {x3 : Int32} {z5 : Option jm_V} (hM : ML g σ m) : ∀ (k i N : Nat) (els : List sp_E) (f : Nat → Nat → Int32) (T1 : Nat → sp_P), i + k = els.length → FQ σ m f T T1 base sh → MK f m base n j gens ws sh lim → MS f m T1 → PL5 T1 base sh els → f m 20 = nI els.length → SE j n sh els → f m 11 = 0 → f m 12 = 0 → f m 13 = nI (lim - N) → N ≤ lim → f m 24 = nI pr → f m 25 = nI ps → f m 26 = nI bf →
    J g (d + 7) 103 266 [some (aR 6 m), some (aI (nI base)), some (aI (nI many)), some (aI x3), some (aI (nI i)), z5] [] (f, σ.2) (jMk σ m T base sh lim ((sp_reds j k i N els).1, (pr, (ps, (bf, (sp_reds j k i N els).2))))) := by
  intro k
  induction k with
  | zero =>
    intro i N els f T1 hik hQ hMK hS hP h20 hSE h11 h12 h13 hN h24 h25 h26
    have hl := hSE.2.1
    refine jm_run ok_M_make [] 90 (fun kk hk => ?_)
    conv => whnf
    refine b_le h20 rfl (fun _ => ?_) (fun h => by omega)
    conv => whnf
    exact hk _ _ _ _ (r_M_make_301 ⟨f, T1, hQ, hS, h13, h24, h25, h26, Or.inl ⟨els, rfl, hP, h20, h11, h12⟩, rfl⟩)
  | succ k ih =>
    intro i N els f T1 hik hQ hMK hS hP h20 hSE h11 h12 h13 hN h24 h25 h26
    have hl := hSE.2.1
    have hSr := fun m' els' => SE_red (m := N) (m' := m') (i := i) (els' := els') hSE (by omega)
    rw [sp_reds]
    refine jm_run ok_M_make [266] 90 (fun kk hk => ?_)
    conv => whnf
    refine b_le h20 rfl (fun h => by omega) (fun _ => ?_)
    conv => whnf
    refine b_nz (b := false) h11 (fun h => by cases h) (fun _ => ?_)
    conv => whnf
    refine b_nz (b := false) h12 (fun h => by cases h) (fun _ => ?_)
    conv => whnf
    refine hk _ _ _ _ (k_M_make_292 rfl (c_mreduce (σ := (f, σ.2)) hM hMK hS hP h20 hSE (by omega : i < els.length) h11 h12 h13 hN) (fun u hu => ?_))
    generalize sp_red j N els i = r at hu hSr
    obtain ⟨N2, o⟩ := r
    obtain ⟨f2, T2, hf2, hS2, hq2, f213, hN2, h3, hu⟩ := hu
    subst hu
    have m2 : ∀ k, k ≠ 11 → k ≠ 12 → k ≠ 13 → k ≠ 16 → k ≠ 17 → f2 m k = f m k := hf2.2
    have hQ2 : FQ σ m f2 T T2 base sh := hQ.fk (hf2.fk hq2)
    have hMK2 : MK f2 m base n j gens ws sh lim := MK_fr hMK (m2 1 (by decide) (by decide) (by decide) (by decide) (by decide)) (m2 2 (by decide) (by decide) (by decide) (by decide) (by decide)) (m2 19 (by decide) (by decide) (by decide) (by decide) (by decide)) (m2 21 (by decide) (by decide) (by decide) (by decide) (by decide)) (m2 7 (by decide) (by decide) (by decide) (by decide) (by decide)) (m2 22 (by decide) (by decide) (by decide) (by decide) (by decide)) (m2 14 (by decide) (by decide) (by decide) (by decide) (by decide))
    have f220 : f2 m 20 = nI els.length := (m2 20 (by decide) (by decide) (by decide) (by decide) (by decide)).trans h20
    have f224 : f2 m 24 = nI pr := (m2 24 (by decide) (by decide) (by decide) (by decide) (by decide)).trans h24
    have f225 : f2 m 25 = nI ps := (m2 25 (by decide) (by decide) (by decide) (by decide) (by decide)).trans h25
    have f226 : f2 m 26 = nI bf := (m2 26 (by decide) (by decide) (by decide) (by decide) (by decide)).trans h26
    show J g (d + 7) 103 295 _ _ (f2, σ.2) _
    rcases h3 with ⟨els', ho, hP2, f211, f212⟩ | ⟨x, ho, hfl⟩
    · have ho : o = .inr els' := ho
      subst ho
      have hS' := hSr N2 els' rfl
      refine jm_run ok_M_make [266] 90 (fun kk hk => ?_)
      conv => whnf
      rw [nI_1]
      exact hk _ _ _ _ (ih (i + 1) N2 els' f2 T2 (by rw [hS'.2.1]; omega) hQ2 hMK2 hS2 hP2 (by rw [hS'.2.1]; exact f220) hS'.1 f211 f212 f213 hN2 f224 f225 f226)
    · have ho : o = .inl x := ho
      subst ho
      have hend : jMk σ m T base sh lim (N2, (pr, (ps, (bf, .inl x)))) ((f2, σ.2), .inl none) := ⟨f2, T2, hQ2, hS2, f213, f224, f225, f226, Or.inr ⟨x, rfl, hfl⟩, rfl⟩
      show J g (d + 7) 103 295 _ _ (f2, σ.2) (jMk σ m T base sh lim (N2, (pr, (ps, (bf, .inl x)))))
      refine jm_run ok_M_make [] 90 (fun kk hk => ?_)
      conv => whnf
      rw [nI_1]
      rcases hfl with ⟨-, g12, g11⟩ | ⟨-, g12, g11⟩
      · refine b_le f220 rfl (fun _ => ?_) (fun _ => ?_)
        · conv => whnf
          exact hk _ _ _ _ (r_M_make_301 hend)
        · conv => whnf
          refine b_nz (b := false) g11 (fun h => by cases h) (fun _ => ?_)
          conv => whnf
          refine b_nz (b := true) g12 (fun _ => ?_) (fun h => by cases h)
          conv => whnf
          exact hk _ _ _ _ (r_M_make_301 hend)
      · refine b_le f220 rfl (fun _ => ?_) (fun _ => ?_)
        · conv => whnf
          exact hk _ _ _ _ (r_M_make_301 hend)
        · conv => whnf
          refine b_nz (b := true) g11 (fun _ => ?_) (fun h => by cases h)
          conv => whnf
          exact hk _ _ _ _ (r_M_make_301 hend)
/-- the pairs -/
theorem c_makeP {T : Nat → sp_P} {base n j gens sh lim many : Nat} {ws : Bool} {x3 : Int32} {z5 : Option jm_V} (hM : ML g σ m) : ∀ (k N pr ps : Nat) (st : sp_ES) (f : Nat → Nat → Int32) (T1 : Nat → sp_P) (z4 : Option jm_V), sp_mu st < k → FQ σ m f T T1 base sh → MK f m base n j gens ws sh lim → MS f m T1 → MB f m T1 base sh st → SE j n sh st.1 → f m 11 = 0 → f m 12 = 0 → f m 13 = nI (lim - N) → N ≤ lim → f m 24 = nI pr → f m 25 = nI ps →
    J g (d + 7) 103 203 [some (aR 6 m), some (aI (nI base)), some (aI (nI many)), some (aI x3), z4, z5] [] (f, σ.2) (jMk σ m T base sh lim (sp_fin j (sp_lp j k N pr ps st))) := by
  intro k
  induction k with
  | zero => intro N pr ps st f T1 z4 hmu; exact absurd hmu (Nat.not_lt_zero _)
  | succ k ih =>
    intro N pr ps st f T1 z4 hmu hQ hMK hS hB hSE h11 h12 h13 hN h24 h25
    have hl := hSE.2.1
    have hGl := sp_G_len st.1
    rw [sp_lp]
    refine jm_run ok_M_make [] 90 (fun kk hk => ?_)
    conv => whnf
    refine b_nz (b := false) h11 (fun h => by cases h) (fun _ => ?_)
    conv => whnf
    refine b_nz (b := false) h12 (fun h => by cases h) (fun _ => ?_)
    conv => whnf
    refine hk _ _ _ _ (k_M_make_218 rfl (c_monepair (σ := (f, σ.2)) hM hMK hS hB hSE h11 h12 h13 hN h24 h25) (fun u hu => ?_))
    rcases hu with ⟨hnx, hu⟩ | ⟨b, hnx, hu⟩
    · subst hu
      rw [hnx]
      have hst : jm_wi (f, σ.2) m 26 (nI st.1.length) = ((jm_wi (f, σ.2) m 26 (nI st.1.length)).1, σ.2) := rfl
      have Fk : ∀ k, k ≠ 26 → (jm_wi (f, σ.2) m 26 (nI st.1.length)).1 m k = f m k := fun k hk => jm_wi_k hk
      have F26 : (jm_wi (f, σ.2) m 26 (nI st.1.length)).1 m 26 = nI st.1.length := jm_wi_at
      have Fq : ∀ q, q ≠ m → (jm_wi (f, σ.2) m 26 (nI st.1.length)).1 q = f q := fun q hq => jm_wi_q hq
      have FQF : FQ σ m (jm_wi (f, σ.2) m 26 (nI st.1.length)).1 T T1 base sh := hQ.wi (by unfold kf; omega)
      show J g (d + 7) 103 221 _ _ (f, σ.2) (jMk σ m T base sh lim ((sp_reds j (sp_thin j st.1).length 0 N (sp_thin j st.1)).1, (pr, (ps, (st.1.length, (sp_reds j (sp_thin j st.1).length 0 N (sp_thin j st.1)).2)))))
      refine jm_run ok_M_make [] 90 (fun kk hk => ?_)
      conv => whnf
      refine b_z (b := false) rfl (fun _ => ?_) (fun h => by cases h)
      conv => whnf
      rw [show (f, σ.2).1 m 20 = nI st.1.length from hB.2.1, hst]
      generalize (jm_wi (f, σ.2) m 26 (nI st.1.length)).1 = F at Fk F26 Fq FQF
      refine b_nz (b := false) ((Fk 11 (by decide)).trans h11) (fun h => by cases h) (fun _ => ?_)
      conv => whnf
      refine b_nz (b := false) ((Fk 12 (by decide)).trans h12) (fun h => by cases h) (fun _ => ?_)
      conv => whnf
      have hMKF : MK F m base n j gens ws sh lim := MK_fr hMK (Fk 1 (by decide)) (Fk 2 (by decide)) (Fk 19 (by decide)) (Fk 21 (by decide)) (Fk 7 (by decide)) (Fk 22 (by decide)) (Fk 14 (by decide))
      refine hk _ _ _ _ (k_M_make_260 rfl (c_mclean (σ := (F, σ.2)) (d := d + 3) hM hMKF (MS_fr hS (fun q a b => Fq q (by omega))) hB.1 ((Fk 20 (by decide)).trans hB.2.1) hSE) (fun u hu => ?_))
      obtain ⟨f2, T2, c1, c2, c3, c4, c5, c6, hu⟩ := hu
      subst hu
      have hQ2 : FQ σ m f2 T T2 base sh := ⟨fun q a b c => (c1 q a c).trans (FQF.1 q a b c), fun k a b c => (c2 k (fun e => a (by unfold kf; omega))).trans (FQF.2.1 k a b c), fun q a => (c6 q a).trans (FQF.2.2 q a)⟩
      have hMK2 : MK f2 m base n j gens ws sh lim := MK_fr hMKF (c2 1 (by decide)) (c2 2 (by decide)) (c2 19 (by decide)) (c2 21 (by decide)) (c2 7 (by decide)) (c2 22 (by decide)) (c2 14 (by decide))
      show J g (d + 7) 103 263 _ _ (f2, σ.2) _
      refine jm_run ok_M_make [266] 90 (fun kk hk => ?_)
      conv => whnf
      exact hk _ _ _ _ (c_makeR hM (sp_thin j st.1).length 0 N (sp_thin j st.1) f2 T2 (by omega) hQ2 hMK2 c4 c5 c3 (SE_thin hSE) ((c2 11 (by decide)).trans ((Fk 11 (by decide)).trans h11)) ((c2 12 (by decide)).trans ((Fk 12 (by decide)).trans h12)) ((c2 13 (by decide)).trans ((Fk 13 (by decide)).trans h13)) hN ((c2 24 (by decide)).trans ((Fk 24 (by decide)).trans h24)) ((c2 25 (by decide)).trans ((Fk 25 (by decide)).trans h25)) ((c2 26 (by decide)).trans F26))
    · rw [hnx]
      have hlt := sp_next_lt b hnx
      have hwb := sp_next_w hnx
      have hmu1 : sp_mu (st.1, sp_clr st.2 b.1 b.2) < k := by
        have := cw_clr hwb hlt.1 (show b.2 < st.1.length by omega)
        unfold sp_mu at hmu ⊢
        dsimp only
        omega
      have hSEp := fun N' st' => SE_pair (v := n) (sh := sh) (m := N) (m' := N') (st := (st.1, sp_clr st.2 b.1 b.2)) (st' := st') (i := b.1) (k := b.2) hSE (show b.1 < st.1.length by omega) (show b.2 < st.1.length by omega)
      have hmup := fun N' st' => sp_pair_mu (j := j) (m := N) (m' := N') (i := b.1) (k := b.2) (st := (st.1, sp_clr st.2 b.1 b.2)) (st' := st') hl
      obtain ⟨f2, T2, a1, a2, a3, a4, a5, a6, a7, a8, hu⟩ := hu
      subst hu
      have hQ2 := hQ.fk (ρ := σ.2) a1
      have hMK2 := MK_fk (σ := (f, σ.2)) hMK a1 a5
      have hst24 : jm_wi (f2, σ.2) m 24 (nI (pr + 1)) = ((jm_wi (f2, σ.2) m 24 (nI (pr + 1))).1, σ.2) := rfl
      have Fk : ∀ k, k ≠ 24 → (jm_wi (f2, σ.2) m 24 (nI (pr + 1))).1 m k = f2 m k := fun k hk => jm_wi_k hk
      have F24 : (jm_wi (f2, σ.2) m 24 (nI (pr + 1))).1 m 24 = nI (pr + 1) := jm_wi_at
      have Fq : ∀ q, q ≠ m → (jm_wi (f2, σ.2) m 24 (nI (pr + 1))).1 q = f2 q := fun q hq => jm_wi_q hq
      have FQF : FQ σ m (jm_wi (f2, σ.2) m 24 (nI (pr + 1))).1 T T2 base sh := hQ2.wi (by unfold kf; omega)
      have to203 : ∀ K : jm_O → Prop, J g (d + 7) 103 203 [some (aR 6 m), some (aI (nI base)), some (aI (nI many)), some (aI x3), z4, z5] [] ((jm_wi (f2, σ.2) m 24 (nI (pr + 1))).1, σ.2) K → J g (d + 7) 103 221 [some (aR 6 m), some (aI (nI base)), some (aI (nI many)), some (aI x3), z4, z5] [aI 1] (f2, σ.2) K := by
        intro K hJ
        refine jm_run ok_M_make [203] 90 (fun kk hk => ?_)
        conv => whnf
        refine b_z (b := true) rfl (fun h => by cases h) (fun _ => ?_)
        conv => whnf
        rw [show (f2, σ.2).1 m 24 = nI (pr + 1) from a6, show nI (pr + 1) + 0 = nI (pr + 1) from nI_add (pr + 1) 0, hst24]
        exact hk _ _ _ _ hJ
      have fail : ∀ (r : Nat × (Nat × (Nat × (Nat × (Int32 ⊕ List sp_E))))) (N' ps' : Nat) (x : Int32), r = (N', (pr + 1, (ps', (st.1.length, .inl x)))) → f2 m 13 = nI (lim - N') → f2 m 25 = nI ps' → flg f2 m x → f2 m 20 = nI st.1.length → J g (d + 7) 103 221 [some (aR 6 m), some (aI (nI base)), some (aI (nI many)), some (aI x3), z4, z5] [aI 1] (f2, σ.2) (jMk σ m T base sh lim r) := by
        intro r N' ps' x hr g13 g25 hfl g20
        subst hr
        refine to203 _ ?_
        have gfl : flg (jm_wi (f2, σ.2) m 24 (nI (pr + 1))).1 m x := by
          unfold flg at hfl ⊢
          rw [Fk 12 (by decide), Fk 11 (by decide)]
          exact hfl
        have hF := c_makeF (g := g) (d := d + 7) (σ := σ) (many := many) (x3 := x3) (z4 := z4) (z5 := z5) FQF (MS_fr a2 (fun q a b => Fq q (by omega))) ((Fk 13 (by decide)).trans g13) F24 ((Fk 25 (by decide)).trans g25) ((Fk 20 (by decide)).trans g20) hl gfl
        generalize (jm_wi (f2, σ.2) m 24 (nI (pr + 1))).1 = F at gfl hF
        rcases gfl with ⟨-, g12, g11⟩ | ⟨-, g12, g11⟩
        · refine jm_run ok_M_make [237] 90 (fun kk hk => ?_)
          conv => whnf
          refine b_nz (b := false) g11 (fun h => by cases h) (fun _ => ?_)
          conv => whnf
          refine b_nz (b := true) g12 (fun _ => ?_) (fun h => by cases h)
          conv => whnf
          exact hk _ _ _ _ hF
        · refine jm_run ok_M_make [237] 90 (fun kk hk => ?_)
          conv => whnf
          refine b_nz (b := true) g11 (fun _ => ?_) (fun h => by cases h)
          conv => whnf
          exact hk _ _ _ _ hF
      have go : ∀ (N' ps' : Nat) (st' : sp_ES), sp_mu st' < k → f2 m 13 = nI (lim - N') → N' ≤ lim → f2 m 25 = nI ps' → MB f2 m T2 base sh st' → SE j n sh st'.1 → f2 m 11 = 0 → f2 m 12 = 0 → J g (d + 7) 103 221 [some (aR 6 m), some (aI (nI base)), some (aI (nI many)), some (aI x3), z4, z5] [aI 1] (f2, σ.2) (jMk σ m T base sh lim (sp_fin j (sp_lp j k N' (pr + 1) ps' st'))) := by
        intro N' ps' st' hmu' g13 gN g25 gB gSE g11 g12
        refine to203 _ ?_
        refine ih N' (pr + 1) ps' st' _ T2 z4 hmu' FQF (MK_fr hMK2 (Fk 1 (by decide)) (Fk 2 (by decide)) (Fk 19 (by decide)) (Fk 21 (by decide)) (Fk 7 (by decide)) (Fk 22 (by decide)) (Fk 14 (by decide))) (MS_fr a2 (fun q a b => Fq q (by omega))) ⟨gB.1, (Fk 20 (by decide)).trans gB.2.1, fun i k' a b => by rw [Fq (m + 7) (by omega)]; exact gB.2.2 i k' a b⟩ gSE ((Fk 11 (by decide)).trans g11) ((Fk 12 (by decide)).trans g12) ((Fk 13 (by decide)).trans g13) gN F24 ((Fk 25 (by decide)).trans g25)
      show J g (d + 7) 103 221 _ _ (f2, σ.2) _
      unfold sp_tn at a3 a4 a7 a8
      dsimp only
      by_cases hp : sp_pass (sp_G st.1) (sp_clr st.2 b.1 b.2) b.1 b.2 = true
      · rw [if_pos hp] at a3 a4 a7 a8 ⊢
        rcases a8 with ⟨st', ho, gB, g11, g12⟩ | ⟨x, ho, -⟩
        · cases ho
          exact go N (ps + 1) _ hmu1 a3 hN a7 gB hSE g11 g12
        · cases ho
      · rw [if_neg hp] at a3 a4 a7 a8 ⊢
        generalize sp_pair j N (st.1, sp_clr st.2 b.1 b.2) b.1 b.2 = r at a3 a4 a8 hSEp hmup
        obtain ⟨N', o⟩ := r
        rcases a8 with ⟨st', ho, gB, g11, g12⟩ | ⟨x, ho, hfl, g20⟩
        · have ho : o = .inr st' := ho
          subst ho
          have h1 := hmup N' st' rfl
          exact go N' ps st' (by rw [h1.2]; exact hmu1) a3 a4 a7 gB (hSEp N' st' rfl) g11 g12
        · have ho : o = .inl x := ho
          subst ho
          exact fail _ N' ps x rfl a3 a7 hfl g20
end
