/-! THE MODEL: basis, check -/
section
variable {g : jm_G} {d : Nat} {σ : jm_S} {m : Nat} {S : sp_H}
theorem c_mbasis {x : Int32} (hR : MR g σ m S) (hG : GS S) : J g (d + 8) 102 0 [some (aR 6 m), some (aI x)] [] σ (jMd g σ m (op_basis S x).1 (op_basis S x).2) := by
  have hM := hR.1
  obtain ⟨T, hS, hT⟩ := hR.2.2.2
  have hF := hR.2.1
  have hgl := hG.2.2.2.1
  have e0 : (0 : Int32).toInt = 0 := rfl
  have e2 : (20000 : Int32).toInt = 20000 := rfl
  unfold op_basis
  cases hx : sp_is x with
  | false =>
    rw [if_neg (by decide)]
    have hx := of_decide_eq_false hx
    refine jm_run ok_M_basis [] 90 (fun kk hk => ?_)
    conv => whnf
    refine ⟨fun h1 => ?_, fun h1 => ?_⟩
    · conv => whnf
      exact hk _ _ _ _ (r_M_basis_13 (jMd_same hR))
    · have q1 : ¬ x.toInt < (0 : Int32).toInt := fun q => h1 (Int32.lt_iff_toInt_lt.mpr q)
      conv => whnf
      refine ⟨fun h2 => ?_, fun h2 => ?_⟩
      · have q2 := Int32.le_iff_toInt_le.mp h2
        exact absurd ⟨by omega, by omega⟩ hx
      · conv => whnf
        exact hk _ _ _ _ (r_M_basis_13 (jMd_same hR))
  | true =>
    rw [if_pos rfl]
    obtain ⟨lim, hlim, rfl⟩ := sp_is_t hx
    rw [nI_clamp (by omega)]
    have fldk : ∀ (k : Nat), (jm_wi (jm_wi (jm_wi (jm_wi (jm_wi σ m 11 0) m 12 0) m 13 0) m 14 (nI lim)) m 10 0).1 m k = if k = 10 then 0 else if k = 14 then nI lim else if k = 13 then 0 else if k = 12 then 0 else if k = 11 then 0 else σ.1 m k := by
      intro k
      simp only [jm_wi_1, true_and]
    have fldq : ∀ (q : Nat), q ≠ m → (jm_wi (jm_wi (jm_wi (jm_wi (jm_wi σ m 11 0) m 12 0) m 13 0) m 14 (nI lim)) m 10 0).1 q = σ.1 q := by
      intro q hq
      rw [jm_wi_q hq, jm_wi_q hq, jm_wi_q hq, jm_wi_q hq, jm_wi_q hq]
    have hst : jm_wi (jm_wi (jm_wi (jm_wi (jm_wi σ m 11 0) m 12 0) m 13 0) m 14 (nI lim)) m 10 0 = ((jm_wi (jm_wi (jm_wi (jm_wi (jm_wi σ m 11 0) m 12 0) m 13 0) m 14 (nI lim)) m 10 0).1, σ.2) := rfl
    refine jm_run ok_M_basis [] 90 (fun kk hk => ?_)
    conv => whnf
    refine b_lt (a := lim) (b := 0) rfl rfl (fun h => by omega) (fun _ => ?_)
    conv => whnf
    refine b_le (a := lim) (b := 20000) rfl rfl (fun _ => ?_) (fun h => by omega)
    conv => whnf
    refine ⟨Or.inl rfl, ?_⟩
    conv => whnf
    refine ⟨Or.inl rfl, ?_⟩
    conv => whnf
    refine ⟨Or.inl rfl, ?_⟩
    conv => whnf
    rw [hst]
    generalize (jm_wi (jm_wi (jm_wi (jm_wi (jm_wi σ m 11 0) m 12 0) m 13 0) m 14 (nI lim)) m 10 0).1 = A at fldk fldq
    have A7 : A m 7 = nI (hgn S).length := by rw [fldk]; exact hF.2.2.2.1
    rw [A7]
    refine hk _ _ _ _ (k_M_basis_47 rfl (c_mmake (σ := (A, σ.2)) (d := d) (base := 50) (ws := true) (n := hv S) (j := hkd S) (gl := hgn S) (lim := lim) (T := T) hM ⟨by show A m 1 = _; rw [fldk]; exact hF.2.1, by show A m 2 = _; rw [fldk]; exact hF.2.2.1, by have := hG.1.2; omega, hG.2.1⟩ (MS_fr hS (fun q a b => fldq q (by omega))) (Or.inl rfl) A7 hgl (by show A m 14 = _; rw [fldk]; rfl) (by omega) (by show A m 11 = _; rw [fldk]; rfl) (by show A m 12 = _; rw [fldk]; rfl) (by show A m 13 = _; rw [fldk]; rfl) (by omega) (fun i p hp => ⟨hT.2.1 i p hp, hG.2.2.2.2.2.1 p (List.mem_of_getElem? hp)⟩)) (fun u hu => ?_))
    have hu : jMk (A, σ.2) m T 50 (hgn S).length lim (sp_bas (hkd S) (hgn S).length (hgn S) lim) u := hu
    generalize sp_bas (hkd S) (hgn S).length (hgn S) lim = O at hu ⊢
    obtain ⟨on, pr, ps, bf, o2⟩ := O
    obtain ⟨f, T2, hQ2, hS2, f13, f24, f25, f26, h6, hu⟩ := hu
    subst hu
    have f13 : f m 13 = nI (lim - on) := f13
    have f24 : f m 24 = nI pr := f24
    have f25 : f m 25 = nI ps := f25
    have f26 : f m 26 = nI bf := f26
    show J g (d + 8) 102 50 _ _ (f, σ.2) _
    have hst2 : jm_wi (jm_wi (jm_wi (jm_wi (f, σ.2) (m + 5) 0 (nI (lim - on))) (m + 5) 1 (nI pr)) (m + 5) 2 (nI ps)) (m + 5) 3 (nI bf) = ((jm_wi (jm_wi (jm_wi (jm_wi (f, σ.2) (m + 5) 0 (nI (lim - on))) (m + 5) 1 (nI pr)) (m + 5) 2 (nI ps)) (m + 5) 3 (nI bf)).1, σ.2) := rfl
    have Dq : ∀ q, q ≠ m + 5 → (jm_wi (jm_wi (jm_wi (jm_wi (f, σ.2) (m + 5) 0 (nI (lim - on))) (m + 5) 1 (nI pr)) (m + 5) 2 (nI ps)) (m + 5) 3 (nI bf)).1 q = f q := fun q hq => by rw [jm_wi_q hq, jm_wi_q hq, jm_wi_q hq, jm_wi_q hq]
    have Dk : ∀ k, (jm_wi (jm_wi (jm_wi (jm_wi (f, σ.2) (m + 5) 0 (nI (lim - on))) (m + 5) 1 (nI pr)) (m + 5) 2 (nI ps)) (m + 5) 3 (nI bf)).1 (m + 5) k = if k = 3 then nI bf else if k = 2 then nI ps else if k = 1 then nI pr else if k = 0 then nI (lim - on) else f (m + 5) k := fun k => by simp only [jm_wi_1, true_and]
    have fk : ∀ k, ¬ kf k → k ≠ 19 → k ≠ 22 → k ≠ 10 → k ≠ 14 → f m k = σ.1 m k := fun k a b c e i => by
      rw [hQ2.2.1 k a b c]
      show A m k = _
      rw [fldk, if_neg e, if_neg i, if_neg (fun e => a (by unfold kf; omega)), if_neg (fun e => a (by unfold kf; omega)), if_neg (fun e => a (by unfold kf; omega))]
    have f10 : f m 10 = 0 := by
      rw [hQ2.2.1 10 (by unfold kf; omega) (by decide) (by decide)]
      show A m 10 = _
      rw [fldk]; rfl
    have fq : ∀ q, ¬ (m ≤ q ∧ q ≤ m + 4) → q ≠ m + 7 → q ≠ m + 8 → f q = σ.1 q := fun q a b c => (hQ2.1 q a b c).trans (fldq q (by omega))
    have go : ∀ D : Nat → Nat → Int32, (∀ q, q ≠ m + 5 → D q = f q) → (∀ k, D (m + 5) k = if k = 3 then nI bf else if k = 2 then nI ps else if k = 1 then nI pr else if k = 0 then nI (lim - on) else f (m + 5) k) → J g (d + 8) 102 90 [some (aR 6 m), some (aI (nI lim))] [] (D, σ.2) (jMd g σ m (sp_ba2 S lim (on, (pr, (ps, (bf, o2))))).1 (sp_ba2 S lim (on, (pr, (ps, (bf, o2))))).2) := by
      intro D Dq Dk
      have Dm : D m = f m := Dq m (by omega)
      have hDD : D (m + 5) 0 = nI (lim - on) ∧ D (m + 5) 1 = nI pr ∧ D (m + 5) 2 = nI ps ∧ D (m + 5) 3 = nI bf := ⟨by rw [Dk]; rfl, by rw [Dk]; rfl, by rw [Dk]; rfl, by rw [Dk]; rfl⟩
      have hst3 : ∀ y z : Int32, jm_wi (jm_wi (D, σ.2) m 8 y) m 9 z = ((jm_wi (jm_wi (D, σ.2) m 8 y) m 9 z).1, σ.2) := fun _ _ => rfl
      have Gq : ∀ (y z : Int32) (q : Nat), q ≠ m → (jm_wi (jm_wi (D, σ.2) m 8 y) m 9 z).1 q = D q := fun y z q hq => (jm_wi_q hq).trans (jm_wi_q hq)
      have Gk : ∀ (y z : Int32) (k : Nat), k ≠ 8 → k ≠ 9 → (jm_wi (jm_wi (D, σ.2) m 8 y) m 9 z).1 m k = f m k := fun y z k a b => (jm_wi_k b).trans ((jm_wi_k a).trans (congrFun Dm k))
      have G8 : ∀ (y z : Int32), (jm_wi (jm_wi (D, σ.2) m 8 y) m 9 z).1 m 8 = y := fun y z => (jm_wi_k (by decide)).trans jm_wi_at
      have hend : ∀ (S' : sp_H) (y z a : Int32), S'.1 = S.1 → S'.2.1 = S.2.1 → hQ S' = false → z = sp_bi (hB S') → (hB S' = true → y = nI (hel S').length ∧ PL5 T2 50 (hgn S).length (hel S')) → hct S' = (lim - on, (pr, (ps, bf))) → jMd g σ m a S' (((jm_wi (jm_wi (D, σ.2) m 8 y) m 9 z).1, σ.2), .inl (some (aI a))) := by
        intro S' y z a e1 e2 e3 e4 e5 e6
        refine jMd_mk hM ⟨?_, ?_, ?_, ?_, ?_, ?_, fun hb => ?_⟩ ?_ (MS_fr hS2 (fun q a b => (Gq y z q (by omega)).trans (Dq q (by omega)))) ⟨fun k hk => ?_, fun i p hp => ?_, fun hb => ?_, fun _ hq => ?_⟩ (fun q hq => (Gq y z q (by omega)).trans ((Dq q (by omega)).trans (fq q (by omega) (by omega) (by omega))))
        · rw [Gk y z 0 (by decide) (by decide), fk 0 (by unfold kf; omega) (by decide) (by decide) (by decide) (by decide), hF.1]; show nI S.1.1 = nI S'.1.1; rw [e1]
        · rw [Gk y z 1 (by decide) (by decide), fk 1 (by unfold kf; omega) (by decide) (by decide) (by decide) (by decide), hF.2.1]; show nI S.1.1 = nI S'.1.1; rw [e1]
        · rw [Gk y z 2 (by decide) (by decide), fk 2 (by unfold kf; omega) (by decide) (by decide) (by decide) (by decide), hF.2.2.1]; show nI S.1.2 = nI S'.1.2; rw [e1]
        · rw [Gk y z 7 (by decide) (by decide), fk 7 (by unfold kf; omega) (by decide) (by decide) (by decide) (by decide), hF.2.2.2.1]; show nI S.2.1.2.length = nI S'.2.1.2.length; rw [e2]
        · exact jm_wi_at.trans e4
        · rw [Gk y z 10 (by decide) (by decide), f10, e3]; rfl
        · exact (G8 y z).trans (e5 hb).1
        · unfold MD
          rw [e6, Gq y z _ (by omega)]
          exact hDD
        · rw [hQ2.2.2 k (by unfold sl; omega), hT.1 k hk]
          show S.2.1.1.getD k [] = S'.2.1.1.getD k []
          rw [e2]
        · have hp : S'.2.1.2[i]? = some p := hp
          rw [e2] at hp
          have hi := (List.getElem?_eq_some_iff.mp hp).1
          have hi : i < (hgn S).length := hi
          rw [hQ2.2.2 (40 + i) (by unfold sl; omega)]
          exact hT.2.1 i p hp
        · have := (e5 hb).2
          rw [show (hgn S').length = (hgn S).length by show S'.2.1.2.length = S.2.1.2.length; rw [e2]]
          exact this
        · rw [e3] at hq; cases hq
      rcases h6 with ⟨els, ho, hPL, f20, f11, f12⟩ | ⟨c, ho, hfl⟩
      · have ho : o2 = .inr els := ho
        subst ho
        show J g (d + 8) 102 90 _ _ (D, σ.2) (jMd g σ m (nI els.length) (S.1, (S.2.1, ((els, (true, false)), (hkp S, (lim - on, (pr, (ps, bf))))))))
        refine jm_run ok_M_basis [] 90 (fun kk hk => ?_)
        conv => whnf
        rw [show (D, σ.2).1 m 20 = nI els.length from (congrFun Dm 20).trans f20]
        refine b_nz (b := false) ((jm_wi_k (by decide)).trans ((congrFun Dm 11).trans f11)) (fun h => by cases h) (fun _ => ?_)
        conv => whnf
        refine b_nz (b := false) ((jm_wi_k (by decide)).trans ((congrFun Dm 12).trans f12)) (fun h => by cases h) (fun _ => ?_)
        conv => whnf
        refine ⟨Or.inr rfl, ?_⟩
        conv => whnf
        refine b_z (b := false) ((Gk _ _ 12 (by decide) (by decide)).trans f12) (fun _ => ?_) (fun h => by cases h)
        conv => whnf
        refine b_z (b := false) ((Gk _ _ 11 (by decide) (by decide)).trans f11) (fun _ => ?_) (fun h => by cases h)
        conv => whnf
        rw [G8, hst3]
        exact hk _ _ _ _ (r_M_basis_149 (hend _ _ _ _ rfl rfl rfl rfl (fun _ => ⟨rfl, hPL⟩) rfl))
      · have ho : o2 = .inl c := ho
        subst ho
        show J g (d + 8) 102 90 _ _ (D, σ.2) (jMd g σ m c (S.1, (S.2.1, ((hel S, (false, false)), (hkp S, (lim - on, (pr, (ps, bf))))))))
        rcases hfl with ⟨hc, f12, f11⟩ | ⟨hc, f12, f11⟩ <;> subst hc
        · refine jm_run ok_M_basis [] 90 (fun kk hk => ?_)
          conv => whnf
          refine b_nz (b := false) ((jm_wi_k (by decide)).trans ((congrFun Dm 11).trans f11)) (fun h => by cases h) (fun _ => ?_)
          conv => whnf
          refine b_nz (b := true) ((jm_wi_k (by decide)).trans ((congrFun Dm 12).trans f12)) (fun _ => ?_) (fun h => by cases h)
          conv => whnf
          refine ⟨Or.inl rfl, ?_⟩
          conv => whnf
          refine b_z (b := true) ((Gk _ _ 12 (by decide) (by decide)).trans f12) (fun h => by cases h) (fun _ => ?_)
          conv => whnf
          rw [hst3]
          exact hk _ _ _ _ (r_M_basis_149 (hend _ _ _ _ rfl rfl rfl rfl (fun h => (by cases h)) rfl))
        · refine jm_run ok_M_basis [] 90 (fun kk hk => ?_)
          conv => whnf
          refine b_nz (b := true) ((jm_wi_k (by decide)).trans ((congrFun Dm 11).trans f11)) (fun _ => ?_) (fun h => by cases h)
          conv => whnf
          refine ⟨Or.inl rfl, ?_⟩
          conv => whnf
          refine b_z (b := false) ((Gk _ _ 12 (by decide) (by decide)).trans f12) (fun _ => ?_) (fun h => by cases h)
          conv => whnf
          refine b_z (b := true) ((Gk _ _ 11 (by decide) (by decide)).trans f11) (fun h => by cases h) (fun _ => ?_)
          conv => whnf
          rw [hst3]
          exact hk _ _ _ _ (r_M_basis_149 (hend _ _ _ _ rfl rfl rfl rfl (fun h => (by cases h)) rfl))
    refine jm_run ok_M_basis [90] 90 (fun kk hk => ?_)
    conv => whnf
    refine jg hM.did ?_
    conv => whnf
    rw [show (f, σ.2).1 m 13 = nI (lim - on) from f13]
    refine jw (i := 0) rfl hM.l5 ?_
    conv => whnf
    refine jg hM.did ?_
    conv => whnf
    rw [show (jm_wi (f, σ.2) (m + 5) 0 (nI (lim - on))).1 m 24 = nI pr from (congrFun (jm_wi_q (by omega)) 24).trans f24]
    refine jw (i := 1) rfl hM.l5 ?_
    conv => whnf
    refine jg hM.did ?_
    conv => whnf
    rw [show (jm_wi (jm_wi (f, σ.2) (m + 5) 0 (nI (lim - on))) (m + 5) 1 (nI pr)).1 m 25 = nI ps from (congrFun (jm_wi_q (by omega)) 25).trans ((congrFun (jm_wi_q (by omega)) 25).trans f25)]
    refine jw (i := 2) rfl hM.l5 ?_
    conv => whnf
    refine jg hM.did ?_
    conv => whnf
    rw [show (jm_wi (jm_wi (jm_wi (f, σ.2) (m + 5) 0 (nI (lim - on))) (m + 5) 1 (nI pr)) (m + 5) 2 (nI ps)).1 m 26 = nI bf from (congrFun (jm_wi_q (by omega)) 26).trans ((congrFun (jm_wi_q (by omega)) 26).trans ((congrFun (jm_wi_q (by omega)) 26).trans f26))]
    refine jw (i := 3) rfl hM.l5 ?_
    conv => whnf
    rw [hst2]
    exact hk _ _ _ _ (go _ Dq Dk)
theorem c_mmade1 {T : Nat → sp_P} {a c : Nat} {x2 : Int32} (hM : ML g σ m) (hT : MS σ.1 m T) (ha : a < 372) (hcc : c < 372) (hac : a ≠ c) (h11 : σ.1 m 11 = 1) : J g d 96 0 [some (aR 6 m), some (aI (nI a)), some (aI x2), some (aI (nI c)), none] [] σ (jP σ m T c none) := by
  have hst : jm_wi σ (m + 4) c 0 = ((jm_wi σ (m + 4) c 0).1, σ.2) := rfl
  have hS2 := MS_nil (f := σ.1) (ρ := σ.2) (p := c) hT
  have hFm : FM σ m (jm_wi σ (m + 4) c 0).1 := ⟨fun q hq => jm_wi_q (by omega), fun k _ _ _ => by rw [jm_wi_q (by omega)]⟩
  have h11' : (jm_wi σ (m + 4) c 0).1 m 11 = 1 := (congrFun (jm_wi_q (by omega)) 11).trans h11
  have hend : jP σ m T c none (((jm_wi σ (m + 4) c 0).1, σ.2), .inl none) := ⟨_, [], hFm, hS2, Or.inr ⟨rfl, h11'⟩, rfl⟩
  have hz := hS2.sz ha
  have hlen := (hS2 a ha).1
  refine jm_run ok_M_made [] 90 (fun kk hk => ?_)
  conv => whnf
  refine jg hM.size ?_
  conv => whnf
  refine jw rfl hM.l4 ?_
  conv => whnf
  refine jg hM.size ?_
  conv => whnf
  refine ja rfl hM.l4 hz ?_
  conv => whnf
  rw [hst]
  refine b_le (b := 0) rfl rfl (fun _ => ?_) (fun _ => ?_)
  · conv => whnf
    exact hk _ _ _ _ (r_M_made_76 hend)
  · conv => whnf
    refine b_nz (b := true) h11' (fun _ => ?_) (fun h => by cases h)
    conv => whnf
    exact hk _ _ _ _ (r_M_made_76 hend)
end
